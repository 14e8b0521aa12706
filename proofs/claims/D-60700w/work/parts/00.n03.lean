/-! LibraryDesk$Reckoner -/
set_option maxRecDepth 100000
def RX7 : String := "LibraryDesk$Reckone\x72"
def TX7 : u_T := fun k => match k with
  | 0 => ("LibraryDesk$Reckone\x72", "quotient", "LLibraryDesk$Big;", true)
  | 1 => ("LibraryDesk$Reckone\x72", "rest", "LLibraryDesk$Big;", true)
  | 2 => ("LibraryDesk$Reckone\x72", "one", "LLibraryDesk$Big;", true)
  | 3 => ("LibraryDesk$Reckone\x72", "two", "LLibraryDesk$Big;", true)
  | 4 => ("LibraryDesk$Reckone\x72", "three", "LLibraryDesk$Big;", true)
  | 5 => ("LibraryDesk$Reckone\x72", "fou\x72", "LLibraryDesk$Big;", true)
  | 6 => ("LibraryDesk$Reckone\x72", "made", "LLibraryDesk$Big;", true)
  | 7 => ("LibraryDesk$Reckone\x72", "diviso\x72", "LLibraryDesk$Big;", true)
  | _ => ("LibraryDesk$Reckone\x72", "dividend", "LLibraryDesk$Big;", true)
def tyX7 : Nat → FieldType := fun k => match k with
  | 0 => .object "LibraryDesk$Big"
  | 1 => .object "LibraryDesk$Big"
  | 2 => .object "LibraryDesk$Big"
  | 3 => .object "LibraryDesk$Big"
  | 4 => .object "LibraryDesk$Big"
  | 5 => .object "LibraryDesk$Big"
  | 6 => .object "LibraryDesk$Big"
  | 7 => .object "LibraryDesk$Big"
  | _ => .object "LibraryDesk$Big"
abbrev wsX70 : List Cond := u_ws RX7 TX7 9
theorem nmX7 : ∀ a, a < 9 → ∀ b, b < 9 → a ≠ b → (TX7 a).2.1 ≠ (TX7 b).2.1 := by decide +kernel
theorem tyX7_ok : ∀ k, k < 9 → parseFieldDescriptor (TX7 k).2.2.1 = some (tyX7 k) := by decide +kernel
abbrev cX7_init : ByteArray := prog_24_method_1_code
def yX7_init : MethodName := ⟨RX7, "<init>", "()V"⟩
def dkwX7_init_4 : List UInt8 := [181, 0, 34, 42, 187, 0, 7, 89, 183, 0, 9, 181, 0, 37, 177]
abbrev dktX7_init_4 : List UInt8 := dkwX7_init_4 ++ []
def dkwX7_init_3 : List UInt8 := [181, 0, 28, 42, 187, 0, 7, 89, 183, 0, 9, 181, 0, 31, 42, 187, 0, 7, 89, 183, 0, 9]
abbrev dktX7_init_3 : List UInt8 := dkwX7_init_3 ++ dktX7_init_4
def dkwX7_init_2 : List UInt8 := [181, 0, 22, 42, 187, 0, 7, 89, 183, 0, 9, 181, 0, 25, 42, 187, 0, 7, 89, 183, 0, 9]
abbrev dktX7_init_2 : List UInt8 := dkwX7_init_2 ++ dktX7_init_3
def dkwX7_init_1 : List UInt8 := [181, 0, 16, 42, 187, 0, 7, 89, 183, 0, 9, 181, 0, 19, 42, 187, 0, 7, 89, 183, 0, 9]
abbrev dktX7_init_1 : List UInt8 := dkwX7_init_1 ++ dktX7_init_2
def dkwX7_init_0 : List UInt8 := [42, 183, 0, 1, 42, 187, 0, 7, 89, 183, 0, 9, 181, 0, 10, 42, 187, 0, 7, 89, 183, 0, 9]
abbrev dktX7_init_0 : List UInt8 := dkwX7_init_0 ++ dktX7_init_1
theorem dksX7_init_0 : cX7_init.data.toList.drop 0 = dktX7_init_0 := by decide +kernel
theorem dksX7_init_1 : cX7_init.data.toList.drop 23 = dktX7_init_1 := dk_seg dksX7_init_0 23 rfl rfl
theorem dksX7_init_2 : cX7_init.data.toList.drop 45 = dktX7_init_2 := dk_seg dksX7_init_1 22 rfl rfl
theorem dksX7_init_3 : cX7_init.data.toList.drop 67 = dktX7_init_3 := dk_seg dksX7_init_2 22 rfl rfl
theorem dksX7_init_4 : cX7_init.data.toList.drop 89 = dktX7_init_4 := dk_seg dksX7_init_3 22 rfl rfl
theorem dX7_init_0 : decode cX7_init 0 = .ok (.aload_n 0, 1) := dk_42 (dk_at dksX7_init_0 0 rfl rfl)
theorem dX7_init_1 : decode cX7_init 1 = .ok (.invokespecial 1, 3) := dk_183 0 1 (dk_at dksX7_init_0 1 rfl rfl)
theorem dX7_init_4 : decode cX7_init 4 = .ok (.aload_n 0, 1) := dk_42 (dk_at dksX7_init_0 4 rfl rfl)
theorem dX7_init_5 : decode cX7_init 5 = .ok (.new 7, 3) := dk_187 0 7 (dk_at dksX7_init_0 5 rfl rfl)
theorem dX7_init_8 : decode cX7_init 8 = .ok (.dup, 1) := dk_89 (dk_at dksX7_init_0 8 rfl rfl)
theorem dX7_init_9 : decode cX7_init 9 = .ok (.invokespecial 9, 3) := dk_183 0 9 (dk_at dksX7_init_0 9 rfl rfl)
theorem dX7_init_12 : decode cX7_init 12 = .ok (.putfield 10, 3) := dk_181 0 10 (dk_at dksX7_init_0 12 rfl rfl)
theorem dX7_init_15 : decode cX7_init 15 = .ok (.aload_n 0, 1) := dk_42 (dk_at dksX7_init_0 15 rfl rfl)
theorem dX7_init_16 : decode cX7_init 16 = .ok (.new 7, 3) := dk_187 0 7 (dk_at dksX7_init_0 16 rfl rfl)
theorem dX7_init_19 : decode cX7_init 19 = .ok (.dup, 1) := dk_89 (dk_at dksX7_init_0 19 rfl rfl)
theorem dX7_init_20 : decode cX7_init 20 = .ok (.invokespecial 9, 3) := dk_183 0 9 (dk_at dksX7_init_0 20 rfl rfl)
theorem dX7_init_23 : decode cX7_init 23 = .ok (.putfield 16, 3) := dk_181 0 16 (dk_at dksX7_init_1 0 rfl rfl)
theorem dX7_init_26 : decode cX7_init 26 = .ok (.aload_n 0, 1) := dk_42 (dk_at dksX7_init_1 3 rfl rfl)
theorem dX7_init_27 : decode cX7_init 27 = .ok (.new 7, 3) := dk_187 0 7 (dk_at dksX7_init_1 4 rfl rfl)
theorem dX7_init_30 : decode cX7_init 30 = .ok (.dup, 1) := dk_89 (dk_at dksX7_init_1 7 rfl rfl)
theorem dX7_init_31 : decode cX7_init 31 = .ok (.invokespecial 9, 3) := dk_183 0 9 (dk_at dksX7_init_1 8 rfl rfl)
theorem dX7_init_34 : decode cX7_init 34 = .ok (.putfield 19, 3) := dk_181 0 19 (dk_at dksX7_init_1 11 rfl rfl)
theorem dX7_init_37 : decode cX7_init 37 = .ok (.aload_n 0, 1) := dk_42 (dk_at dksX7_init_1 14 rfl rfl)
theorem dX7_init_38 : decode cX7_init 38 = .ok (.new 7, 3) := dk_187 0 7 (dk_at dksX7_init_1 15 rfl rfl)
theorem dX7_init_41 : decode cX7_init 41 = .ok (.dup, 1) := dk_89 (dk_at dksX7_init_1 18 rfl rfl)
theorem dX7_init_42 : decode cX7_init 42 = .ok (.invokespecial 9, 3) := dk_183 0 9 (dk_at dksX7_init_1 19 rfl rfl)
theorem dX7_init_45 : decode cX7_init 45 = .ok (.putfield 22, 3) := dk_181 0 22 (dk_at dksX7_init_2 0 rfl rfl)
theorem dX7_init_48 : decode cX7_init 48 = .ok (.aload_n 0, 1) := dk_42 (dk_at dksX7_init_2 3 rfl rfl)
theorem dX7_init_49 : decode cX7_init 49 = .ok (.new 7, 3) := dk_187 0 7 (dk_at dksX7_init_2 4 rfl rfl)
theorem dX7_init_52 : decode cX7_init 52 = .ok (.dup, 1) := dk_89 (dk_at dksX7_init_2 7 rfl rfl)
theorem dX7_init_53 : decode cX7_init 53 = .ok (.invokespecial 9, 3) := dk_183 0 9 (dk_at dksX7_init_2 8 rfl rfl)
theorem dX7_init_56 : decode cX7_init 56 = .ok (.putfield 25, 3) := dk_181 0 25 (dk_at dksX7_init_2 11 rfl rfl)
theorem dX7_init_59 : decode cX7_init 59 = .ok (.aload_n 0, 1) := dk_42 (dk_at dksX7_init_2 14 rfl rfl)
theorem dX7_init_60 : decode cX7_init 60 = .ok (.new 7, 3) := dk_187 0 7 (dk_at dksX7_init_2 15 rfl rfl)
theorem dX7_init_63 : decode cX7_init 63 = .ok (.dup, 1) := dk_89 (dk_at dksX7_init_2 18 rfl rfl)
theorem dX7_init_64 : decode cX7_init 64 = .ok (.invokespecial 9, 3) := dk_183 0 9 (dk_at dksX7_init_2 19 rfl rfl)
theorem dX7_init_67 : decode cX7_init 67 = .ok (.putfield 28, 3) := dk_181 0 28 (dk_at dksX7_init_3 0 rfl rfl)
theorem dX7_init_70 : decode cX7_init 70 = .ok (.aload_n 0, 1) := dk_42 (dk_at dksX7_init_3 3 rfl rfl)
theorem dX7_init_71 : decode cX7_init 71 = .ok (.new 7, 3) := dk_187 0 7 (dk_at dksX7_init_3 4 rfl rfl)
theorem dX7_init_74 : decode cX7_init 74 = .ok (.dup, 1) := dk_89 (dk_at dksX7_init_3 7 rfl rfl)
theorem dX7_init_75 : decode cX7_init 75 = .ok (.invokespecial 9, 3) := dk_183 0 9 (dk_at dksX7_init_3 8 rfl rfl)
theorem dX7_init_78 : decode cX7_init 78 = .ok (.putfield 31, 3) := dk_181 0 31 (dk_at dksX7_init_3 11 rfl rfl)
theorem dX7_init_81 : decode cX7_init 81 = .ok (.aload_n 0, 1) := dk_42 (dk_at dksX7_init_3 14 rfl rfl)
theorem dX7_init_82 : decode cX7_init 82 = .ok (.new 7, 3) := dk_187 0 7 (dk_at dksX7_init_3 15 rfl rfl)
theorem dX7_init_85 : decode cX7_init 85 = .ok (.dup, 1) := dk_89 (dk_at dksX7_init_3 18 rfl rfl)
theorem dX7_init_86 : decode cX7_init 86 = .ok (.invokespecial 9, 3) := dk_183 0 9 (dk_at dksX7_init_3 19 rfl rfl)
theorem dX7_init_89 : decode cX7_init 89 = .ok (.putfield 34, 3) := dk_181 0 34 (dk_at dksX7_init_4 0 rfl rfl)
theorem dX7_init_92 : decode cX7_init 92 = .ok (.aload_n 0, 1) := dk_42 (dk_at dksX7_init_4 3 rfl rfl)
theorem dX7_init_93 : decode cX7_init 93 = .ok (.new 7, 3) := dk_187 0 7 (dk_at dksX7_init_4 4 rfl rfl)
theorem dX7_init_96 : decode cX7_init 96 = .ok (.dup, 1) := dk_89 (dk_at dksX7_init_4 7 rfl rfl)
theorem dX7_init_97 : decode cX7_init 97 = .ok (.invokespecial 9, 3) := dk_183 0 9 (dk_at dksX7_init_4 8 rfl rfl)
theorem dX7_init_100 : decode cX7_init 100 = .ok (.putfield 37, 3) := dk_181 0 37 (dk_at dksX7_init_4 11 rfl rfl)
theorem dX7_init_103 : decode cX7_init 103 = .ok (.return_, 1) := dk_177 (dk_at dksX7_init_4 14 rfl rfl)
abbrev cX7_whole : ByteArray := prog_24_method_16_code
def yX7_whole : MethodName := ⟨RX7, "whole", "(ILLibraryDesk$Big;LLibraryDesk$Big;LLibraryDesk$Big;)V"⟩
def dkwX7_whole_9 : List UInt8 := [182, 0, 161, 42, 180, 0, 31, 184, 0, 131, 44, 42, 180, 0, 31, 182, 0, 58, 177]
abbrev dktX7_whole_9 : List UInt8 := dkwX7_whole_9 ++ []
def dkwX7_whole_8 : List UInt8 := [17, 240, 0, 17, 16, 0, 184, 0, 143, 182, 0, 158, 167, 0, 14, 42, 180, 0, 31, 45, 25, 4, 27]
abbrev dktX7_whole_8 : List UInt8 := dkwX7_whole_8 ++ dktX7_whole_9
def dkwX7_whole_7 : List UInt8 := [45, 25, 4, 44, 182, 0, 151, 167, 0, 41, 42, 45, 182, 0, 155, 167, 0, 33, 42, 45, 25, 4]
abbrev dktX7_whole_7 : List UInt8 := dkwX7_whole_7 ++ dktX7_whole_8
def dkwX7_whole_6 : List UInt8 := [182, 0, 140, 167, 0, 69, 42, 45, 25, 4, 3, 17, 16, 0, 184, 0, 143, 182, 0, 147, 167, 0, 52, 42]
abbrev dktX7_whole_6 : List UInt8 := dkwX7_whole_6 ++ dktX7_whole_7
def dkwX7_whole_5 : List UInt8 := [25, 4, 182, 0, 134, 42, 180, 0, 31, 42, 180, 0, 16, 182, 0, 58, 167, 0, 79, 42, 45, 25, 4]
abbrev dktX7_whole_5 : List UInt8 := dkwX7_whole_5 ++ dktX7_whole_6
def dkwX7_whole_4 : List UInt8 := [6, 160, 0, 10, 42, 180, 0, 10, 167, 0, 7, 42, 180, 0, 16, 182, 0, 58, 167, 0, 100, 42, 45]
abbrev dktX7_whole_4 : List UInt8 := dkwX7_whole_4 ++ dktX7_whole_5
def dkwX7_whole_3 : List UInt8 := [180, 0, 31, 45, 25, 4, 182, 0, 128, 167, 0, 133, 42, 45, 25, 4, 182, 0, 121, 42, 180, 0, 31, 27]
abbrev dktX7_whole_3 : List UInt8 := dkwX7_whole_3 ++ dktX7_whole_4
def dkwX7_whole_2 : List UInt8 := [42, 180, 0, 31, 45, 25, 4, 27, 4, 160, 0, 7, 4, 167, 0, 4, 3, 182, 0, 124, 167, 0, 146, 42]
abbrev dktX7_whole_2 : List UInt8 := dkwX7_whole_2 ++ dktX7_whole_3
def dkwX7_whole_1 : List UInt8 := [170, 0, 0, 0, 0, 0, 226, 0, 0, 0, 0, 0, 0, 0, 13, 0, 0, 0, 71, 0, 0, 0, 71, 0, 0, 0, 94, 0, 0, 0, 107, 0, 0, 0, 107, 0, 0, 0, 140, 0, 0, 0, 161, 0, 0, 0, 171, 0, 0, 0, 188, 0, 0, 0, 199, 0, 0, 0, 226, 0, 0, 0, 226, 0, 0, 0, 226, 0, 0, 0, 207]
abbrev dktX7_whole_1 : List UInt8 := dkwX7_whole_1 ++ dktX7_whole_2
def dkwX7_whole_0 : List UInt8 := [27]
abbrev dktX7_whole_0 : List UInt8 := dkwX7_whole_0 ++ dktX7_whole_1
theorem dksX7_whole_0 : cX7_whole.data.toList.drop 0 = dktX7_whole_0 := by decide +kernel
theorem dksX7_whole_1 : cX7_whole.data.toList.drop 1 = dktX7_whole_1 := dk_seg dksX7_whole_0 1 rfl rfl
theorem dksX7_whole_2 : cX7_whole.data.toList.drop 72 = dktX7_whole_2 := dk_seg dksX7_whole_1 71 rfl rfl
theorem dksX7_whole_3 : cX7_whole.data.toList.drop 96 = dktX7_whole_3 := dk_seg dksX7_whole_2 24 rfl rfl
theorem dksX7_whole_4 : cX7_whole.data.toList.drop 120 = dktX7_whole_4 := dk_seg dksX7_whole_3 24 rfl rfl
theorem dksX7_whole_5 : cX7_whole.data.toList.drop 143 = dktX7_whole_5 := dk_seg dksX7_whole_4 23 rfl rfl
theorem dksX7_whole_6 : cX7_whole.data.toList.drop 166 = dktX7_whole_6 := dk_seg dksX7_whole_5 23 rfl rfl
theorem dksX7_whole_7 : cX7_whole.data.toList.drop 190 = dktX7_whole_7 := dk_seg dksX7_whole_6 24 rfl rfl
theorem dksX7_whole_8 : cX7_whole.data.toList.drop 212 = dktX7_whole_8 := dk_seg dksX7_whole_7 22 rfl rfl
theorem dksX7_whole_9 : cX7_whole.data.toList.drop 235 = dktX7_whole_9 := dk_seg dksX7_whole_8 23 rfl rfl
theorem dX7_whole_0 : decode cX7_whole 0 = .ok (.iload_n 1, 1) := dk_27 (dk_at dksX7_whole_0 0 rfl rfl)
theorem dX7_whole_1 : decode cX7_whole 1 = .ok (.tableswitch 226 0 13 #[71, 71, 94, 107, 107, 140, 161, 171, 188, 199, 226, 226, 226, 207], 71) := by decide +kernel
theorem dX7_whole_72 : decode cX7_whole 72 = .ok (.aload_n 0, 1) := dk_42 (dk_at dksX7_whole_2 0 rfl rfl)
theorem dX7_whole_73 : decode cX7_whole 73 = .ok (.getfield 31, 3) := dk_180 0 31 (dk_at dksX7_whole_2 1 rfl rfl)
theorem dX7_whole_76 : decode cX7_whole 76 = .ok (.aload_n 3, 1) := dk_45 (dk_at dksX7_whole_2 4 rfl rfl)
theorem dX7_whole_77 : decode cX7_whole 77 = .ok (.aload 4, 2) := dk_25 4 (dk_at dksX7_whole_2 5 rfl rfl)
theorem dX7_whole_79 : decode cX7_whole 79 = .ok (.iload_n 1, 1) := dk_27 (dk_at dksX7_whole_2 7 rfl rfl)
theorem dX7_whole_80 : decode cX7_whole 80 = .ok (.iconst 1, 1) := dk_4 (dk_at dksX7_whole_2 8 rfl rfl)
theorem dX7_whole_81 : decode cX7_whole 81 = .ok (.if_icmp .ne 7, 3) := dk_160 0 7 (dk_at dksX7_whole_2 9 rfl rfl)
theorem dX7_whole_84 : decode cX7_whole 84 = .ok (.iconst 1, 1) := dk_4 (dk_at dksX7_whole_2 12 rfl rfl)
theorem dX7_whole_85 : decode cX7_whole 85 = .ok (.goto 4, 3) := dk_167 0 4 (dk_at dksX7_whole_2 13 rfl rfl)
theorem dX7_whole_88 : decode cX7_whole 88 = .ok (.iconst 0, 1) := dk_3 (dk_at dksX7_whole_2 16 rfl rfl)
theorem dX7_whole_89 : decode cX7_whole 89 = .ok (.invokevirtual 124, 3) := dk_182 0 124 (dk_at dksX7_whole_2 17 rfl rfl)
theorem dX7_whole_92 : decode cX7_whole 92 = .ok (.goto 146, 3) := dk_167 0 146 (dk_at dksX7_whole_2 20 rfl rfl)
theorem dX7_whole_95 : decode cX7_whole 95 = .ok (.aload_n 0, 1) := dk_42 (dk_at dksX7_whole_2 23 rfl rfl)
theorem dX7_whole_96 : decode cX7_whole 96 = .ok (.getfield 31, 3) := dk_180 0 31 (dk_at dksX7_whole_3 0 rfl rfl)
theorem dX7_whole_99 : decode cX7_whole 99 = .ok (.aload_n 3, 1) := dk_45 (dk_at dksX7_whole_3 3 rfl rfl)
theorem dX7_whole_100 : decode cX7_whole 100 = .ok (.aload 4, 2) := dk_25 4 (dk_at dksX7_whole_3 4 rfl rfl)
theorem dX7_whole_102 : decode cX7_whole 102 = .ok (.invokevirtual 128, 3) := dk_182 0 128 (dk_at dksX7_whole_3 6 rfl rfl)
theorem dX7_whole_105 : decode cX7_whole 105 = .ok (.goto 133, 3) := dk_167 0 133 (dk_at dksX7_whole_3 9 rfl rfl)
theorem dX7_whole_108 : decode cX7_whole 108 = .ok (.aload_n 0, 1) := dk_42 (dk_at dksX7_whole_3 12 rfl rfl)
theorem dX7_whole_109 : decode cX7_whole 109 = .ok (.aload_n 3, 1) := dk_45 (dk_at dksX7_whole_3 13 rfl rfl)
theorem dX7_whole_110 : decode cX7_whole 110 = .ok (.aload 4, 2) := dk_25 4 (dk_at dksX7_whole_3 14 rfl rfl)
theorem dX7_whole_112 : decode cX7_whole 112 = .ok (.invokevirtual 121, 3) := dk_182 0 121 (dk_at dksX7_whole_3 16 rfl rfl)
theorem dX7_whole_115 : decode cX7_whole 115 = .ok (.aload_n 0, 1) := dk_42 (dk_at dksX7_whole_3 19 rfl rfl)
theorem dX7_whole_116 : decode cX7_whole 116 = .ok (.getfield 31, 3) := dk_180 0 31 (dk_at dksX7_whole_3 20 rfl rfl)
theorem dX7_whole_119 : decode cX7_whole 119 = .ok (.iload_n 1, 1) := dk_27 (dk_at dksX7_whole_3 23 rfl rfl)
theorem dX7_whole_120 : decode cX7_whole 120 = .ok (.iconst 3, 1) := dk_6 (dk_at dksX7_whole_4 0 rfl rfl)
theorem dX7_whole_121 : decode cX7_whole 121 = .ok (.if_icmp .ne 10, 3) := dk_160 0 10 (dk_at dksX7_whole_4 1 rfl rfl)
theorem dX7_whole_124 : decode cX7_whole 124 = .ok (.aload_n 0, 1) := dk_42 (dk_at dksX7_whole_4 4 rfl rfl)
theorem dX7_whole_125 : decode cX7_whole 125 = .ok (.getfield 10, 3) := dk_180 0 10 (dk_at dksX7_whole_4 5 rfl rfl)
theorem dX7_whole_128 : decode cX7_whole 128 = .ok (.goto 7, 3) := dk_167 0 7 (dk_at dksX7_whole_4 8 rfl rfl)
theorem dX7_whole_131 : decode cX7_whole 131 = .ok (.aload_n 0, 1) := dk_42 (dk_at dksX7_whole_4 11 rfl rfl)
theorem dX7_whole_132 : decode cX7_whole 132 = .ok (.getfield 16, 3) := dk_180 0 16 (dk_at dksX7_whole_4 12 rfl rfl)
theorem dX7_whole_135 : decode cX7_whole 135 = .ok (.invokevirtual 58, 3) := dk_182 0 58 (dk_at dksX7_whole_4 15 rfl rfl)
theorem dX7_whole_138 : decode cX7_whole 138 = .ok (.goto 100, 3) := dk_167 0 100 (dk_at dksX7_whole_4 18 rfl rfl)
theorem dX7_whole_141 : decode cX7_whole 141 = .ok (.aload_n 0, 1) := dk_42 (dk_at dksX7_whole_4 21 rfl rfl)
theorem dX7_whole_142 : decode cX7_whole 142 = .ok (.aload_n 3, 1) := dk_45 (dk_at dksX7_whole_4 22 rfl rfl)
theorem dX7_whole_143 : decode cX7_whole 143 = .ok (.aload 4, 2) := dk_25 4 (dk_at dksX7_whole_5 0 rfl rfl)
theorem dX7_whole_145 : decode cX7_whole 145 = .ok (.invokevirtual 134, 3) := dk_182 0 134 (dk_at dksX7_whole_5 2 rfl rfl)
theorem dX7_whole_148 : decode cX7_whole 148 = .ok (.aload_n 0, 1) := dk_42 (dk_at dksX7_whole_5 5 rfl rfl)
theorem dX7_whole_149 : decode cX7_whole 149 = .ok (.getfield 31, 3) := dk_180 0 31 (dk_at dksX7_whole_5 6 rfl rfl)
theorem dX7_whole_152 : decode cX7_whole 152 = .ok (.aload_n 0, 1) := dk_42 (dk_at dksX7_whole_5 9 rfl rfl)
theorem dX7_whole_153 : decode cX7_whole 153 = .ok (.getfield 16, 3) := dk_180 0 16 (dk_at dksX7_whole_5 10 rfl rfl)
theorem dX7_whole_156 : decode cX7_whole 156 = .ok (.invokevirtual 58, 3) := dk_182 0 58 (dk_at dksX7_whole_5 13 rfl rfl)
theorem dX7_whole_159 : decode cX7_whole 159 = .ok (.goto 79, 3) := dk_167 0 79 (dk_at dksX7_whole_5 16 rfl rfl)
theorem dX7_whole_162 : decode cX7_whole 162 = .ok (.aload_n 0, 1) := dk_42 (dk_at dksX7_whole_5 19 rfl rfl)
theorem dX7_whole_163 : decode cX7_whole 163 = .ok (.aload_n 3, 1) := dk_45 (dk_at dksX7_whole_5 20 rfl rfl)
theorem dX7_whole_164 : decode cX7_whole 164 = .ok (.aload 4, 2) := dk_25 4 (dk_at dksX7_whole_5 21 rfl rfl)
theorem dX7_whole_166 : decode cX7_whole 166 = .ok (.invokevirtual 140, 3) := dk_182 0 140 (dk_at dksX7_whole_6 0 rfl rfl)
theorem dX7_whole_169 : decode cX7_whole 169 = .ok (.goto 69, 3) := dk_167 0 69 (dk_at dksX7_whole_6 3 rfl rfl)
theorem dX7_whole_172 : decode cX7_whole 172 = .ok (.aload_n 0, 1) := dk_42 (dk_at dksX7_whole_6 6 rfl rfl)
theorem dX7_whole_173 : decode cX7_whole 173 = .ok (.aload_n 3, 1) := dk_45 (dk_at dksX7_whole_6 7 rfl rfl)
theorem dX7_whole_174 : decode cX7_whole 174 = .ok (.aload 4, 2) := dk_25 4 (dk_at dksX7_whole_6 8 rfl rfl)
theorem dX7_whole_176 : decode cX7_whole 176 = .ok (.iconst 0, 1) := dk_3 (dk_at dksX7_whole_6 10 rfl rfl)
theorem dX7_whole_177 : decode cX7_whole 177 = .ok (.sipush 4096, 3) := dk_17 16 0 (dk_at dksX7_whole_6 11 rfl rfl)
theorem dX7_whole_180 : decode cX7_whole 180 = .ok (.invokestatic 143, 3) := dk_184 0 143 (dk_at dksX7_whole_6 14 rfl rfl)
theorem dX7_whole_183 : decode cX7_whole 183 = .ok (.invokevirtual 147, 3) := dk_182 0 147 (dk_at dksX7_whole_6 17 rfl rfl)
theorem dX7_whole_186 : decode cX7_whole 186 = .ok (.goto 52, 3) := dk_167 0 52 (dk_at dksX7_whole_6 20 rfl rfl)
theorem dX7_whole_189 : decode cX7_whole 189 = .ok (.aload_n 0, 1) := dk_42 (dk_at dksX7_whole_6 23 rfl rfl)
theorem dX7_whole_190 : decode cX7_whole 190 = .ok (.aload_n 3, 1) := dk_45 (dk_at dksX7_whole_7 0 rfl rfl)
theorem dX7_whole_191 : decode cX7_whole 191 = .ok (.aload 4, 2) := dk_25 4 (dk_at dksX7_whole_7 1 rfl rfl)
theorem dX7_whole_193 : decode cX7_whole 193 = .ok (.aload_n 2, 1) := dk_44 (dk_at dksX7_whole_7 3 rfl rfl)
theorem dX7_whole_194 : decode cX7_whole 194 = .ok (.invokevirtual 151, 3) := dk_182 0 151 (dk_at dksX7_whole_7 4 rfl rfl)
theorem dX7_whole_197 : decode cX7_whole 197 = .ok (.goto 41, 3) := dk_167 0 41 (dk_at dksX7_whole_7 7 rfl rfl)
theorem dX7_whole_200 : decode cX7_whole 200 = .ok (.aload_n 0, 1) := dk_42 (dk_at dksX7_whole_7 10 rfl rfl)
theorem dX7_whole_201 : decode cX7_whole 201 = .ok (.aload_n 3, 1) := dk_45 (dk_at dksX7_whole_7 11 rfl rfl)
theorem dX7_whole_202 : decode cX7_whole 202 = .ok (.invokevirtual 155, 3) := dk_182 0 155 (dk_at dksX7_whole_7 12 rfl rfl)
theorem dX7_whole_205 : decode cX7_whole 205 = .ok (.goto 33, 3) := dk_167 0 33 (dk_at dksX7_whole_7 15 rfl rfl)
theorem dX7_whole_208 : decode cX7_whole 208 = .ok (.aload_n 0, 1) := dk_42 (dk_at dksX7_whole_7 18 rfl rfl)
theorem dX7_whole_209 : decode cX7_whole 209 = .ok (.aload_n 3, 1) := dk_45 (dk_at dksX7_whole_7 19 rfl rfl)
theorem dX7_whole_210 : decode cX7_whole 210 = .ok (.aload 4, 2) := dk_25 4 (dk_at dksX7_whole_7 20 rfl rfl)
theorem dX7_whole_212 : decode cX7_whole 212 = .ok (.sipush (-4096), 3) := dk_17 240 0 (dk_at dksX7_whole_8 0 rfl rfl)
theorem dX7_whole_215 : decode cX7_whole 215 = .ok (.sipush 4096, 3) := dk_17 16 0 (dk_at dksX7_whole_8 3 rfl rfl)
theorem dX7_whole_218 : decode cX7_whole 218 = .ok (.invokestatic 143, 3) := dk_184 0 143 (dk_at dksX7_whole_8 6 rfl rfl)
theorem dX7_whole_221 : decode cX7_whole 221 = .ok (.invokevirtual 158, 3) := dk_182 0 158 (dk_at dksX7_whole_8 9 rfl rfl)
theorem dX7_whole_224 : decode cX7_whole 224 = .ok (.goto 14, 3) := dk_167 0 14 (dk_at dksX7_whole_8 12 rfl rfl)
theorem dX7_whole_227 : decode cX7_whole 227 = .ok (.aload_n 0, 1) := dk_42 (dk_at dksX7_whole_8 15 rfl rfl)
theorem dX7_whole_228 : decode cX7_whole 228 = .ok (.getfield 31, 3) := dk_180 0 31 (dk_at dksX7_whole_8 16 rfl rfl)
theorem dX7_whole_231 : decode cX7_whole 231 = .ok (.aload_n 3, 1) := dk_45 (dk_at dksX7_whole_8 19 rfl rfl)
theorem dX7_whole_232 : decode cX7_whole 232 = .ok (.aload 4, 2) := dk_25 4 (dk_at dksX7_whole_8 20 rfl rfl)
theorem dX7_whole_234 : decode cX7_whole 234 = .ok (.iload_n 1, 1) := dk_27 (dk_at dksX7_whole_8 22 rfl rfl)
theorem dX7_whole_235 : decode cX7_whole 235 = .ok (.invokevirtual 161, 3) := dk_182 0 161 (dk_at dksX7_whole_9 0 rfl rfl)
theorem dX7_whole_238 : decode cX7_whole 238 = .ok (.aload_n 0, 1) := dk_42 (dk_at dksX7_whole_9 3 rfl rfl)
theorem dX7_whole_239 : decode cX7_whole 239 = .ok (.getfield 31, 3) := dk_180 0 31 (dk_at dksX7_whole_9 4 rfl rfl)
theorem dX7_whole_242 : decode cX7_whole 242 = .ok (.invokestatic 131, 3) := dk_184 0 131 (dk_at dksX7_whole_9 7 rfl rfl)
theorem dX7_whole_245 : decode cX7_whole 245 = .ok (.aload_n 2, 1) := dk_44 (dk_at dksX7_whole_9 10 rfl rfl)
theorem dX7_whole_246 : decode cX7_whole 246 = .ok (.aload_n 0, 1) := dk_42 (dk_at dksX7_whole_9 11 rfl rfl)
theorem dX7_whole_247 : decode cX7_whole 247 = .ok (.getfield 31, 3) := dk_180 0 31 (dk_at dksX7_whole_9 12 rfl rfl)
theorem dX7_whole_250 : decode cX7_whole 250 = .ok (.invokevirtual 58, 3) := dk_182 0 58 (dk_at dksX7_whole_9 15 rfl rfl)
theorem dX7_whole_253 : decode cX7_whole 253 = .ok (.return_, 1) := dk_177 (dk_at dksX7_whole_9 18 rfl rfl)
abbrev cX7_divide : ByteArray := prog_24_method_2_code
def yX7_divide : MethodName := ⟨RX7, "divide", "(LLibraryDesk$Big;LLibraryDesk$Big;)V"⟩
def dkwX7_divide_7 : List UInt8 := [180, 0, 16, 182, 0, 77, 177]
abbrev dktX7_divide_7 : List UInt8 := dkwX7_divide_7 ++ []
def dkwX7_divide_6 : List UInt8 := [181, 0, 62, 42, 180, 0, 10, 182, 0, 77, 42, 180, 0, 16, 43, 180, 0, 62, 181, 0, 62, 42]
abbrev dktX7_divide_6 : List UInt8 := dkwX7_divide_6 ++ dktX7_divide_7
def dkwX7_divide_5 : List UInt8 := [182, 0, 73, 42, 180, 0, 10, 43, 180, 0, 62, 44, 180, 0, 62, 159, 0, 7, 4, 167, 0, 4, 3]
abbrev dktX7_divide_5 : List UInt8 := dkwX7_divide_5 ++ dktX7_divide_6
def dkwX7_divide_4 : List UInt8 := [180, 0, 16, 29, 153, 0, 10, 21, 4, 133, 117, 167, 0, 6, 21, 4, 133, 182, 0, 70, 177, 42, 43, 44]
abbrev dktX7_divide_4 : List UInt8 := dkwX7_divide_4 ++ dktX7_divide_5
def dkwX7_divide_3 : List UInt8 := [180, 0, 50, 158, 0, 15, 29, 44, 180, 0, 62, 159, 0, 7, 4, 167, 0, 4, 3, 181, 0, 62, 42]
abbrev dktX7_divide_3 : List UInt8 := dkwX7_divide_3 ++ dktX7_divide_4
def dkwX7_divide_2 : List UInt8 := [180, 0, 10, 44, 180, 0, 54, 3, 46, 182, 0, 66, 54, 4, 42, 180, 0, 10, 42, 180, 0, 10]
abbrev dktX7_divide_2 : List UInt8 := dkwX7_divide_2 ++ dktX7_divide_3
def dkwX7_divide_1 : List UInt8 := [180, 0, 54, 3, 46, 158, 0, 83, 42, 180, 0, 10, 43, 182, 0, 58, 43, 180, 0, 62, 62, 42]
abbrev dktX7_divide_1 : List UInt8 := dkwX7_divide_1 ++ dktX7_divide_2
def dkwX7_divide_0 : List UInt8 := [44, 182, 0, 40, 154, 0, 7, 4, 167, 0, 4, 3, 184, 0, 44, 44, 180, 0, 50, 4, 160, 0, 92, 44]
abbrev dktX7_divide_0 : List UInt8 := dkwX7_divide_0 ++ dktX7_divide_1
theorem dksX7_divide_0 : cX7_divide.data.toList.drop 0 = dktX7_divide_0 := by decide +kernel
theorem dksX7_divide_1 : cX7_divide.data.toList.drop 24 = dktX7_divide_1 := dk_seg dksX7_divide_0 24 rfl rfl
theorem dksX7_divide_2 : cX7_divide.data.toList.drop 46 = dktX7_divide_2 := dk_seg dksX7_divide_1 22 rfl rfl
theorem dksX7_divide_3 : cX7_divide.data.toList.drop 68 = dktX7_divide_3 := dk_seg dksX7_divide_2 22 rfl rfl
theorem dksX7_divide_4 : cX7_divide.data.toList.drop 91 = dktX7_divide_4 := dk_seg dksX7_divide_3 23 rfl rfl
theorem dksX7_divide_5 : cX7_divide.data.toList.drop 115 = dktX7_divide_5 := dk_seg dksX7_divide_4 24 rfl rfl
theorem dksX7_divide_6 : cX7_divide.data.toList.drop 138 = dktX7_divide_6 := dk_seg dksX7_divide_5 23 rfl rfl
theorem dksX7_divide_7 : cX7_divide.data.toList.drop 160 = dktX7_divide_7 := dk_seg dksX7_divide_6 22 rfl rfl
theorem dX7_divide_0 : decode cX7_divide 0 = .ok (.aload_n 2, 1) := dk_44 (dk_at dksX7_divide_0 0 rfl rfl)
theorem dX7_divide_1 : decode cX7_divide 1 = .ok (.invokevirtual 40, 3) := dk_182 0 40 (dk_at dksX7_divide_0 1 rfl rfl)
theorem dX7_divide_4 : decode cX7_divide 4 = .ok (.ifCond .ne 7, 3) := dk_154 0 7 (dk_at dksX7_divide_0 4 rfl rfl)
theorem dX7_divide_7 : decode cX7_divide 7 = .ok (.iconst 1, 1) := dk_4 (dk_at dksX7_divide_0 7 rfl rfl)
theorem dX7_divide_8 : decode cX7_divide 8 = .ok (.goto 4, 3) := dk_167 0 4 (dk_at dksX7_divide_0 8 rfl rfl)
theorem dX7_divide_11 : decode cX7_divide 11 = .ok (.iconst 0, 1) := dk_3 (dk_at dksX7_divide_0 11 rfl rfl)
theorem dX7_divide_12 : decode cX7_divide 12 = .ok (.invokestatic 44, 3) := dk_184 0 44 (dk_at dksX7_divide_0 12 rfl rfl)
theorem dX7_divide_15 : decode cX7_divide 15 = .ok (.aload_n 2, 1) := dk_44 (dk_at dksX7_divide_0 15 rfl rfl)
theorem dX7_divide_16 : decode cX7_divide 16 = .ok (.getfield 50, 3) := dk_180 0 50 (dk_at dksX7_divide_0 16 rfl rfl)
theorem dX7_divide_19 : decode cX7_divide 19 = .ok (.iconst 1, 1) := dk_4 (dk_at dksX7_divide_0 19 rfl rfl)
theorem dX7_divide_20 : decode cX7_divide 20 = .ok (.if_icmp .ne 92, 3) := dk_160 0 92 (dk_at dksX7_divide_0 20 rfl rfl)
theorem dX7_divide_23 : decode cX7_divide 23 = .ok (.aload_n 2, 1) := dk_44 (dk_at dksX7_divide_0 23 rfl rfl)
theorem dX7_divide_24 : decode cX7_divide 24 = .ok (.getfield 54, 3) := dk_180 0 54 (dk_at dksX7_divide_1 0 rfl rfl)
theorem dX7_divide_27 : decode cX7_divide 27 = .ok (.iconst 0, 1) := dk_3 (dk_at dksX7_divide_1 3 rfl rfl)
theorem dX7_divide_28 : decode cX7_divide 28 = .ok (.iaload, 1) := dk_46 (dk_at dksX7_divide_1 4 rfl rfl)
theorem dX7_divide_29 : decode cX7_divide 29 = .ok (.ifCond .le 83, 3) := dk_158 0 83 (dk_at dksX7_divide_1 5 rfl rfl)
theorem dX7_divide_32 : decode cX7_divide 32 = .ok (.aload_n 0, 1) := dk_42 (dk_at dksX7_divide_1 8 rfl rfl)
theorem dX7_divide_33 : decode cX7_divide 33 = .ok (.getfield 10, 3) := dk_180 0 10 (dk_at dksX7_divide_1 9 rfl rfl)
theorem dX7_divide_36 : decode cX7_divide 36 = .ok (.aload_n 1, 1) := dk_43 (dk_at dksX7_divide_1 12 rfl rfl)
theorem dX7_divide_37 : decode cX7_divide 37 = .ok (.invokevirtual 58, 3) := dk_182 0 58 (dk_at dksX7_divide_1 13 rfl rfl)
theorem dX7_divide_40 : decode cX7_divide 40 = .ok (.aload_n 1, 1) := dk_43 (dk_at dksX7_divide_1 16 rfl rfl)
theorem dX7_divide_41 : decode cX7_divide 41 = .ok (.getfield 62, 3) := dk_180 0 62 (dk_at dksX7_divide_1 17 rfl rfl)
theorem dX7_divide_44 : decode cX7_divide 44 = .ok (.istore_n 3, 1) := dk_62 (dk_at dksX7_divide_1 20 rfl rfl)
theorem dX7_divide_45 : decode cX7_divide 45 = .ok (.aload_n 0, 1) := dk_42 (dk_at dksX7_divide_1 21 rfl rfl)
theorem dX7_divide_46 : decode cX7_divide 46 = .ok (.getfield 10, 3) := dk_180 0 10 (dk_at dksX7_divide_2 0 rfl rfl)
theorem dX7_divide_49 : decode cX7_divide 49 = .ok (.aload_n 2, 1) := dk_44 (dk_at dksX7_divide_2 3 rfl rfl)
theorem dX7_divide_50 : decode cX7_divide 50 = .ok (.getfield 54, 3) := dk_180 0 54 (dk_at dksX7_divide_2 4 rfl rfl)
theorem dX7_divide_53 : decode cX7_divide 53 = .ok (.iconst 0, 1) := dk_3 (dk_at dksX7_divide_2 7 rfl rfl)
theorem dX7_divide_54 : decode cX7_divide 54 = .ok (.iaload, 1) := dk_46 (dk_at dksX7_divide_2 8 rfl rfl)
theorem dX7_divide_55 : decode cX7_divide 55 = .ok (.invokevirtual 66, 3) := dk_182 0 66 (dk_at dksX7_divide_2 9 rfl rfl)
theorem dX7_divide_58 : decode cX7_divide 58 = .ok (.istore 4, 2) := dk_54 4 (dk_at dksX7_divide_2 12 rfl rfl)
theorem dX7_divide_60 : decode cX7_divide 60 = .ok (.aload_n 0, 1) := dk_42 (dk_at dksX7_divide_2 14 rfl rfl)
theorem dX7_divide_61 : decode cX7_divide 61 = .ok (.getfield 10, 3) := dk_180 0 10 (dk_at dksX7_divide_2 15 rfl rfl)
theorem dX7_divide_64 : decode cX7_divide 64 = .ok (.aload_n 0, 1) := dk_42 (dk_at dksX7_divide_2 18 rfl rfl)
theorem dX7_divide_65 : decode cX7_divide 65 = .ok (.getfield 10, 3) := dk_180 0 10 (dk_at dksX7_divide_2 19 rfl rfl)
theorem dX7_divide_68 : decode cX7_divide 68 = .ok (.getfield 50, 3) := dk_180 0 50 (dk_at dksX7_divide_3 0 rfl rfl)
theorem dX7_divide_71 : decode cX7_divide 71 = .ok (.ifCond .le 15, 3) := dk_158 0 15 (dk_at dksX7_divide_3 3 rfl rfl)
theorem dX7_divide_74 : decode cX7_divide 74 = .ok (.iload_n 3, 1) := dk_29 (dk_at dksX7_divide_3 6 rfl rfl)
theorem dX7_divide_75 : decode cX7_divide 75 = .ok (.aload_n 2, 1) := dk_44 (dk_at dksX7_divide_3 7 rfl rfl)
theorem dX7_divide_76 : decode cX7_divide 76 = .ok (.getfield 62, 3) := dk_180 0 62 (dk_at dksX7_divide_3 8 rfl rfl)
theorem dX7_divide_79 : decode cX7_divide 79 = .ok (.if_icmp .eq 7, 3) := dk_159 0 7 (dk_at dksX7_divide_3 11 rfl rfl)
theorem dX7_divide_82 : decode cX7_divide 82 = .ok (.iconst 1, 1) := dk_4 (dk_at dksX7_divide_3 14 rfl rfl)
theorem dX7_divide_83 : decode cX7_divide 83 = .ok (.goto 4, 3) := dk_167 0 4 (dk_at dksX7_divide_3 15 rfl rfl)
theorem dX7_divide_86 : decode cX7_divide 86 = .ok (.iconst 0, 1) := dk_3 (dk_at dksX7_divide_3 18 rfl rfl)
theorem dX7_divide_87 : decode cX7_divide 87 = .ok (.putfield 62, 3) := dk_181 0 62 (dk_at dksX7_divide_3 19 rfl rfl)
theorem dX7_divide_90 : decode cX7_divide 90 = .ok (.aload_n 0, 1) := dk_42 (dk_at dksX7_divide_3 22 rfl rfl)
theorem dX7_divide_91 : decode cX7_divide 91 = .ok (.getfield 16, 3) := dk_180 0 16 (dk_at dksX7_divide_4 0 rfl rfl)
theorem dX7_divide_94 : decode cX7_divide 94 = .ok (.iload_n 3, 1) := dk_29 (dk_at dksX7_divide_4 3 rfl rfl)
theorem dX7_divide_95 : decode cX7_divide 95 = .ok (.ifCond .eq 10, 3) := dk_153 0 10 (dk_at dksX7_divide_4 4 rfl rfl)
theorem dX7_divide_98 : decode cX7_divide 98 = .ok (.iload 4, 2) := dk_21 4 (dk_at dksX7_divide_4 7 rfl rfl)
theorem dX7_divide_100 : decode cX7_divide 100 = .ok (.i2l, 1) := dk_133 (dk_at dksX7_divide_4 9 rfl rfl)
theorem dX7_divide_101 : decode cX7_divide 101 = .ok (.lneg, 1) := dk_117 (dk_at dksX7_divide_4 10 rfl rfl)
theorem dX7_divide_102 : decode cX7_divide 102 = .ok (.goto 6, 3) := dk_167 0 6 (dk_at dksX7_divide_4 11 rfl rfl)
theorem dX7_divide_105 : decode cX7_divide 105 = .ok (.iload 4, 2) := dk_21 4 (dk_at dksX7_divide_4 14 rfl rfl)
theorem dX7_divide_107 : decode cX7_divide 107 = .ok (.i2l, 1) := dk_133 (dk_at dksX7_divide_4 16 rfl rfl)
theorem dX7_divide_108 : decode cX7_divide 108 = .ok (.invokevirtual 70, 3) := dk_182 0 70 (dk_at dksX7_divide_4 17 rfl rfl)
theorem dX7_divide_111 : decode cX7_divide 111 = .ok (.return_, 1) := dk_177 (dk_at dksX7_divide_4 20 rfl rfl)
theorem dX7_divide_112 : decode cX7_divide 112 = .ok (.aload_n 0, 1) := dk_42 (dk_at dksX7_divide_4 21 rfl rfl)
theorem dX7_divide_113 : decode cX7_divide 113 = .ok (.aload_n 1, 1) := dk_43 (dk_at dksX7_divide_4 22 rfl rfl)
theorem dX7_divide_114 : decode cX7_divide 114 = .ok (.aload_n 2, 1) := dk_44 (dk_at dksX7_divide_4 23 rfl rfl)
theorem dX7_divide_115 : decode cX7_divide 115 = .ok (.invokevirtual 73, 3) := dk_182 0 73 (dk_at dksX7_divide_5 0 rfl rfl)
theorem dX7_divide_118 : decode cX7_divide 118 = .ok (.aload_n 0, 1) := dk_42 (dk_at dksX7_divide_5 3 rfl rfl)
theorem dX7_divide_119 : decode cX7_divide 119 = .ok (.getfield 10, 3) := dk_180 0 10 (dk_at dksX7_divide_5 4 rfl rfl)
theorem dX7_divide_122 : decode cX7_divide 122 = .ok (.aload_n 1, 1) := dk_43 (dk_at dksX7_divide_5 7 rfl rfl)
theorem dX7_divide_123 : decode cX7_divide 123 = .ok (.getfield 62, 3) := dk_180 0 62 (dk_at dksX7_divide_5 8 rfl rfl)
theorem dX7_divide_126 : decode cX7_divide 126 = .ok (.aload_n 2, 1) := dk_44 (dk_at dksX7_divide_5 11 rfl rfl)
theorem dX7_divide_127 : decode cX7_divide 127 = .ok (.getfield 62, 3) := dk_180 0 62 (dk_at dksX7_divide_5 12 rfl rfl)
theorem dX7_divide_130 : decode cX7_divide 130 = .ok (.if_icmp .eq 7, 3) := dk_159 0 7 (dk_at dksX7_divide_5 15 rfl rfl)
theorem dX7_divide_133 : decode cX7_divide 133 = .ok (.iconst 1, 1) := dk_4 (dk_at dksX7_divide_5 18 rfl rfl)
theorem dX7_divide_134 : decode cX7_divide 134 = .ok (.goto 4, 3) := dk_167 0 4 (dk_at dksX7_divide_5 19 rfl rfl)
theorem dX7_divide_137 : decode cX7_divide 137 = .ok (.iconst 0, 1) := dk_3 (dk_at dksX7_divide_5 22 rfl rfl)
theorem dX7_divide_138 : decode cX7_divide 138 = .ok (.putfield 62, 3) := dk_181 0 62 (dk_at dksX7_divide_6 0 rfl rfl)
theorem dX7_divide_141 : decode cX7_divide 141 = .ok (.aload_n 0, 1) := dk_42 (dk_at dksX7_divide_6 3 rfl rfl)
theorem dX7_divide_142 : decode cX7_divide 142 = .ok (.getfield 10, 3) := dk_180 0 10 (dk_at dksX7_divide_6 4 rfl rfl)
theorem dX7_divide_145 : decode cX7_divide 145 = .ok (.invokevirtual 77, 3) := dk_182 0 77 (dk_at dksX7_divide_6 7 rfl rfl)
theorem dX7_divide_148 : decode cX7_divide 148 = .ok (.aload_n 0, 1) := dk_42 (dk_at dksX7_divide_6 10 rfl rfl)
theorem dX7_divide_149 : decode cX7_divide 149 = .ok (.getfield 16, 3) := dk_180 0 16 (dk_at dksX7_divide_6 11 rfl rfl)
theorem dX7_divide_152 : decode cX7_divide 152 = .ok (.aload_n 1, 1) := dk_43 (dk_at dksX7_divide_6 14 rfl rfl)
theorem dX7_divide_153 : decode cX7_divide 153 = .ok (.getfield 62, 3) := dk_180 0 62 (dk_at dksX7_divide_6 15 rfl rfl)
theorem dX7_divide_156 : decode cX7_divide 156 = .ok (.putfield 62, 3) := dk_181 0 62 (dk_at dksX7_divide_6 18 rfl rfl)
theorem dX7_divide_159 : decode cX7_divide 159 = .ok (.aload_n 0, 1) := dk_42 (dk_at dksX7_divide_6 21 rfl rfl)
theorem dX7_divide_160 : decode cX7_divide 160 = .ok (.getfield 16, 3) := dk_180 0 16 (dk_at dksX7_divide_7 0 rfl rfl)
theorem dX7_divide_163 : decode cX7_divide 163 = .ok (.invokevirtual 77, 3) := dk_182 0 77 (dk_at dksX7_divide_7 3 rfl rfl)
theorem dX7_divide_166 : decode cX7_divide 166 = .ok (.return_, 1) := dk_177 (dk_at dksX7_divide_7 6 rfl rfl)
abbrev cX7_byWords : ByteArray := prog_24_method_3_code
def yX7_byWords : MethodName := ⟨RX7, "byWords", "(LLibraryDesk$Big;LLibraryDesk$Big;)V"⟩
def dkwX7_byWords_19 : List UInt8 := [182, 0, 112, 54, 10, 177]
abbrev dktX7_byWords_19 : List UInt8 := dkwX7_byWords_19 ++ []
def dkwX7_byWords_18 : List UInt8 := [181, 0, 50, 42, 180, 0, 16, 3, 181, 0, 62, 42, 180, 0, 16, 182, 0, 77, 42, 180, 0, 16, 29]
abbrev dktX7_byWords_18 : List UInt8 := dkwX7_byWords_18 ++ dktX7_byWords_19
def dkwX7_byWords_17 : List UInt8 := [180, 0, 10, 182, 0, 77, 42, 180, 0, 16, 42, 180, 0, 37, 182, 0, 58, 42, 180, 0, 16, 21, 4]
abbrev dktX7_byWords_17 : List UInt8 := dkwX7_byWords_17 ++ dktX7_byWords_18
def dkwX7_byWords_16 : List UInt8 := [180, 0, 10, 21, 5, 21, 4, 100, 4, 96, 181, 0, 50, 42, 180, 0, 10, 3, 181, 0, 62, 42]
abbrev dktX7_byWords_16 : List UInt8 := dkwX7_byWords_16 ++ dktX7_byWords_17
def dkwX7_byWords_15 : List UInt8 := [182, 0, 108, 42, 180, 0, 10, 180, 0, 54, 21, 10, 22, 13, 136, 79, 132, 10, 255, 167, 255, 41, 42]
abbrev dktX7_byWords_15 : List UInt8 := dkwX7_byWords_15 ++ dktX7_byWords_16
def dkwX7_byWords_14 : List UInt8 := [21, 10, 21, 4, 22, 13, 182, 0, 104, 153, 0, 17, 22, 13, 10, 101, 55, 13, 42, 21, 10, 21, 4]
abbrev dktX7_byWords_14 : List UInt8 := dkwX7_byWords_14 ++ dktX7_byWords_15
def dkwX7_byWords_13 : List UInt8 := [184, 0, 100, 153, 0, 19, 22, 13, 10, 101, 55, 13, 22, 15, 22, 6, 97, 55, 15, 167, 255, 215, 42]
abbrev dktX7_byWords_13 : List UInt8 := dkwX7_byWords_13 ++ dktX7_byWords_14
def dkwX7_byWords_12 : List UInt8 := [55, 13, 22, 15, 20, 0, 95, 148, 157, 0, 38, 22, 13, 22, 8, 105, 22, 15, 16, 32, 121, 22, 17, 129]
abbrev dktX7_byWords_12 : List UInt8 := dkwX7_byWords_12 ++ dktX7_byWords_13
def dkwX7_byWords_11 : List UInt8 := [20, 0, 95, 148, 158, 0, 22, 22, 15, 22, 13, 20, 0, 95, 101, 22, 6, 105, 97, 55, 15, 20, 0, 95]
abbrev dktX7_byWords_11 : List UInt8 := dkwX7_byWords_11 ++ dktX7_byWords_12
def dkwX7_byWords_10 : List UInt8 := [180, 0, 54, 21, 10, 21, 4, 96, 5, 100, 46, 133, 20, 0, 95, 127, 167, 0, 4, 9, 55, 17, 22, 13]
abbrev dktX7_byWords_10 : List UInt8 := dkwX7_byWords_10 ++ dktX7_byWords_11
def dkwX7_byWords_9 : List UInt8 := [55, 13, 22, 11, 22, 13, 22, 6, 105, 101, 55, 15, 21, 4, 4, 164, 0, 26, 42, 180, 0, 37]
abbrev dktX7_byWords_9 : List UInt8 := dkwX7_byWords_9 ++ dktX7_byWords_10
def dkwX7_byWords_8 : List UInt8 := [21, 10, 21, 4, 96, 4, 100, 46, 133, 20, 0, 95, 127, 129, 55, 11, 22, 11, 22, 6, 184, 0, 97]
abbrev dktX7_byWords_8 : List UInt8 := dkwX7_byWords_8 ++ dktX7_byWords_9
def dkwX7_byWords_7 : List UInt8 := [180, 0, 54, 21, 10, 21, 4, 96, 46, 133, 20, 0, 95, 127, 16, 32, 121, 42, 180, 0, 37, 180, 0, 54]
abbrev dktX7_byWords_7 : List UInt8 := dkwX7_byWords_7 ++ dktX7_byWords_8
def dkwX7_byWords_6 : List UInt8 := [167, 0, 4, 9, 55, 8, 21, 5, 21, 4, 100, 54, 10, 21, 10, 155, 0, 216, 42, 180, 0, 37]
abbrev dktX7_byWords_6 : List UInt8 := dkwX7_byWords_6 ++ dktX7_byWords_7
def dkwX7_byWords_5 : List UInt8 := [21, 4, 4, 164, 0, 23, 42, 180, 0, 34, 180, 0, 54, 21, 4, 5, 100, 46, 133, 20, 0, 95, 127]
abbrev dktX7_byWords_5 : List UInt8 := dkwX7_byWords_5 ++ dktX7_byWords_6
def dkwX7_byWords_4 : List UInt8 := [21, 5, 3, 79, 42, 180, 0, 34, 180, 0, 54, 21, 4, 4, 100, 46, 133, 20, 0, 95, 127, 55, 6]
abbrev dktX7_byWords_4 : List UInt8 := dkwX7_byWords_4 ++ dktX7_byWords_5
def dkwX7_byWords_3 : List UInt8 := [180, 0, 34, 180, 0, 50, 54, 4, 42, 180, 0, 37, 180, 0, 50, 54, 5, 42, 180, 0, 37, 180, 0, 54]
abbrev dktX7_byWords_3 : List UInt8 := dkwX7_byWords_3 ++ dktX7_byWords_4
def dkwX7_byWords_2 : List UInt8 := [180, 0, 34, 29, 182, 0, 91, 42, 180, 0, 37, 43, 182, 0, 58, 42, 180, 0, 37, 29, 182, 0, 91, 42]
abbrev dktX7_byWords_2 : List UInt8 := dkwX7_byWords_2 ++ dktX7_byWords_3
def dkwX7_byWords_1 : List UInt8 := [16, 32, 44, 180, 0, 50, 104, 44, 182, 0, 87, 100, 62, 42, 180, 0, 34, 44, 182, 0, 58, 42]
abbrev dktX7_byWords_1 : List UInt8 := dkwX7_byWords_1 ++ dktX7_byWords_2
def dkwX7_byWords_0 : List UInt8 := [43, 44, 184, 0, 80, 156, 0, 19, 42, 180, 0, 10, 182, 0, 84, 42, 180, 0, 16, 43, 182, 0, 58, 177]
abbrev dktX7_byWords_0 : List UInt8 := dkwX7_byWords_0 ++ dktX7_byWords_1
theorem dksX7_byWords_0 : cX7_byWords.data.toList.drop 0 = dktX7_byWords_0 := by decide +kernel
theorem dksX7_byWords_1 : cX7_byWords.data.toList.drop 24 = dktX7_byWords_1 := dk_seg dksX7_byWords_0 24 rfl rfl
theorem dksX7_byWords_2 : cX7_byWords.data.toList.drop 46 = dktX7_byWords_2 := dk_seg dksX7_byWords_1 22 rfl rfl
theorem dksX7_byWords_3 : cX7_byWords.data.toList.drop 70 = dktX7_byWords_3 := dk_seg dksX7_byWords_2 24 rfl rfl
theorem dksX7_byWords_4 : cX7_byWords.data.toList.drop 94 = dktX7_byWords_4 := dk_seg dksX7_byWords_3 24 rfl rfl
theorem dksX7_byWords_5 : cX7_byWords.data.toList.drop 117 = dktX7_byWords_5 := dk_seg dksX7_byWords_4 23 rfl rfl
theorem dksX7_byWords_6 : cX7_byWords.data.toList.drop 140 = dktX7_byWords_6 := dk_seg dksX7_byWords_5 23 rfl rfl
theorem dksX7_byWords_7 : cX7_byWords.data.toList.drop 162 = dktX7_byWords_7 := dk_seg dksX7_byWords_6 22 rfl rfl
theorem dksX7_byWords_8 : cX7_byWords.data.toList.drop 186 = dktX7_byWords_8 := dk_seg dksX7_byWords_7 24 rfl rfl
theorem dksX7_byWords_9 : cX7_byWords.data.toList.drop 209 = dktX7_byWords_9 := dk_seg dksX7_byWords_8 23 rfl rfl
theorem dksX7_byWords_10 : cX7_byWords.data.toList.drop 231 = dktX7_byWords_10 := dk_seg dksX7_byWords_9 22 rfl rfl
theorem dksX7_byWords_11 : cX7_byWords.data.toList.drop 255 = dktX7_byWords_11 := dk_seg dksX7_byWords_10 24 rfl rfl
theorem dksX7_byWords_12 : cX7_byWords.data.toList.drop 279 = dktX7_byWords_12 := dk_seg dksX7_byWords_11 24 rfl rfl
theorem dksX7_byWords_13 : cX7_byWords.data.toList.drop 303 = dktX7_byWords_13 := dk_seg dksX7_byWords_12 24 rfl rfl
theorem dksX7_byWords_14 : cX7_byWords.data.toList.drop 326 = dktX7_byWords_14 := dk_seg dksX7_byWords_13 23 rfl rfl
theorem dksX7_byWords_15 : cX7_byWords.data.toList.drop 349 = dktX7_byWords_15 := dk_seg dksX7_byWords_14 23 rfl rfl
theorem dksX7_byWords_16 : cX7_byWords.data.toList.drop 372 = dktX7_byWords_16 := dk_seg dksX7_byWords_15 23 rfl rfl
theorem dksX7_byWords_17 : cX7_byWords.data.toList.drop 394 = dktX7_byWords_17 := dk_seg dksX7_byWords_16 22 rfl rfl
theorem dksX7_byWords_18 : cX7_byWords.data.toList.drop 417 = dktX7_byWords_18 := dk_seg dksX7_byWords_17 23 rfl rfl
theorem dksX7_byWords_19 : cX7_byWords.data.toList.drop 440 = dktX7_byWords_19 := dk_seg dksX7_byWords_18 23 rfl rfl
theorem dX7_byWords_0 : decode cX7_byWords 0 = .ok (.aload_n 1, 1) := dk_43 (dk_at dksX7_byWords_0 0 rfl rfl)
theorem dX7_byWords_1 : decode cX7_byWords 1 = .ok (.aload_n 2, 1) := dk_44 (dk_at dksX7_byWords_0 1 rfl rfl)
theorem dX7_byWords_2 : decode cX7_byWords 2 = .ok (.invokestatic 80, 3) := dk_184 0 80 (dk_at dksX7_byWords_0 2 rfl rfl)
theorem dX7_byWords_5 : decode cX7_byWords 5 = .ok (.ifCond .ge 19, 3) := dk_156 0 19 (dk_at dksX7_byWords_0 5 rfl rfl)
theorem dX7_byWords_8 : decode cX7_byWords 8 = .ok (.aload_n 0, 1) := dk_42 (dk_at dksX7_byWords_0 8 rfl rfl)
theorem dX7_byWords_9 : decode cX7_byWords 9 = .ok (.getfield 10, 3) := dk_180 0 10 (dk_at dksX7_byWords_0 9 rfl rfl)
theorem dX7_byWords_12 : decode cX7_byWords 12 = .ok (.invokevirtual 84, 3) := dk_182 0 84 (dk_at dksX7_byWords_0 12 rfl rfl)
theorem dX7_byWords_15 : decode cX7_byWords 15 = .ok (.aload_n 0, 1) := dk_42 (dk_at dksX7_byWords_0 15 rfl rfl)
theorem dX7_byWords_16 : decode cX7_byWords 16 = .ok (.getfield 16, 3) := dk_180 0 16 (dk_at dksX7_byWords_0 16 rfl rfl)
theorem dX7_byWords_19 : decode cX7_byWords 19 = .ok (.aload_n 1, 1) := dk_43 (dk_at dksX7_byWords_0 19 rfl rfl)
theorem dX7_byWords_20 : decode cX7_byWords 20 = .ok (.invokevirtual 58, 3) := dk_182 0 58 (dk_at dksX7_byWords_0 20 rfl rfl)
theorem dX7_byWords_23 : decode cX7_byWords 23 = .ok (.return_, 1) := dk_177 (dk_at dksX7_byWords_0 23 rfl rfl)
theorem dX7_byWords_24 : decode cX7_byWords 24 = .ok (.bipush 32, 2) := dk_16 32 (dk_at dksX7_byWords_1 0 rfl rfl)
theorem dX7_byWords_26 : decode cX7_byWords 26 = .ok (.aload_n 2, 1) := dk_44 (dk_at dksX7_byWords_1 2 rfl rfl)
theorem dX7_byWords_27 : decode cX7_byWords 27 = .ok (.getfield 50, 3) := dk_180 0 50 (dk_at dksX7_byWords_1 3 rfl rfl)
theorem dX7_byWords_30 : decode cX7_byWords 30 = .ok (.imul, 1) := dk_104 (dk_at dksX7_byWords_1 6 rfl rfl)
theorem dX7_byWords_31 : decode cX7_byWords 31 = .ok (.aload_n 2, 1) := dk_44 (dk_at dksX7_byWords_1 7 rfl rfl)
theorem dX7_byWords_32 : decode cX7_byWords 32 = .ok (.invokevirtual 87, 3) := dk_182 0 87 (dk_at dksX7_byWords_1 8 rfl rfl)
theorem dX7_byWords_35 : decode cX7_byWords 35 = .ok (.isub, 1) := dk_100 (dk_at dksX7_byWords_1 11 rfl rfl)
theorem dX7_byWords_36 : decode cX7_byWords 36 = .ok (.istore_n 3, 1) := dk_62 (dk_at dksX7_byWords_1 12 rfl rfl)
theorem dX7_byWords_37 : decode cX7_byWords 37 = .ok (.aload_n 0, 1) := dk_42 (dk_at dksX7_byWords_1 13 rfl rfl)
theorem dX7_byWords_38 : decode cX7_byWords 38 = .ok (.getfield 34, 3) := dk_180 0 34 (dk_at dksX7_byWords_1 14 rfl rfl)
theorem dX7_byWords_41 : decode cX7_byWords 41 = .ok (.aload_n 2, 1) := dk_44 (dk_at dksX7_byWords_1 17 rfl rfl)
theorem dX7_byWords_42 : decode cX7_byWords 42 = .ok (.invokevirtual 58, 3) := dk_182 0 58 (dk_at dksX7_byWords_1 18 rfl rfl)
theorem dX7_byWords_45 : decode cX7_byWords 45 = .ok (.aload_n 0, 1) := dk_42 (dk_at dksX7_byWords_1 21 rfl rfl)
theorem dX7_byWords_46 : decode cX7_byWords 46 = .ok (.getfield 34, 3) := dk_180 0 34 (dk_at dksX7_byWords_2 0 rfl rfl)
theorem dX7_byWords_49 : decode cX7_byWords 49 = .ok (.iload_n 3, 1) := dk_29 (dk_at dksX7_byWords_2 3 rfl rfl)
theorem dX7_byWords_50 : decode cX7_byWords 50 = .ok (.invokevirtual 91, 3) := dk_182 0 91 (dk_at dksX7_byWords_2 4 rfl rfl)
theorem dX7_byWords_53 : decode cX7_byWords 53 = .ok (.aload_n 0, 1) := dk_42 (dk_at dksX7_byWords_2 7 rfl rfl)
theorem dX7_byWords_54 : decode cX7_byWords 54 = .ok (.getfield 37, 3) := dk_180 0 37 (dk_at dksX7_byWords_2 8 rfl rfl)
theorem dX7_byWords_57 : decode cX7_byWords 57 = .ok (.aload_n 1, 1) := dk_43 (dk_at dksX7_byWords_2 11 rfl rfl)
theorem dX7_byWords_58 : decode cX7_byWords 58 = .ok (.invokevirtual 58, 3) := dk_182 0 58 (dk_at dksX7_byWords_2 12 rfl rfl)
theorem dX7_byWords_61 : decode cX7_byWords 61 = .ok (.aload_n 0, 1) := dk_42 (dk_at dksX7_byWords_2 15 rfl rfl)
theorem dX7_byWords_62 : decode cX7_byWords 62 = .ok (.getfield 37, 3) := dk_180 0 37 (dk_at dksX7_byWords_2 16 rfl rfl)
theorem dX7_byWords_65 : decode cX7_byWords 65 = .ok (.iload_n 3, 1) := dk_29 (dk_at dksX7_byWords_2 19 rfl rfl)
theorem dX7_byWords_66 : decode cX7_byWords 66 = .ok (.invokevirtual 91, 3) := dk_182 0 91 (dk_at dksX7_byWords_2 20 rfl rfl)
theorem dX7_byWords_69 : decode cX7_byWords 69 = .ok (.aload_n 0, 1) := dk_42 (dk_at dksX7_byWords_2 23 rfl rfl)
theorem dX7_byWords_70 : decode cX7_byWords 70 = .ok (.getfield 34, 3) := dk_180 0 34 (dk_at dksX7_byWords_3 0 rfl rfl)
theorem dX7_byWords_73 : decode cX7_byWords 73 = .ok (.getfield 50, 3) := dk_180 0 50 (dk_at dksX7_byWords_3 3 rfl rfl)
theorem dX7_byWords_76 : decode cX7_byWords 76 = .ok (.istore 4, 2) := dk_54 4 (dk_at dksX7_byWords_3 6 rfl rfl)
theorem dX7_byWords_78 : decode cX7_byWords 78 = .ok (.aload_n 0, 1) := dk_42 (dk_at dksX7_byWords_3 8 rfl rfl)
theorem dX7_byWords_79 : decode cX7_byWords 79 = .ok (.getfield 37, 3) := dk_180 0 37 (dk_at dksX7_byWords_3 9 rfl rfl)
theorem dX7_byWords_82 : decode cX7_byWords 82 = .ok (.getfield 50, 3) := dk_180 0 50 (dk_at dksX7_byWords_3 12 rfl rfl)
theorem dX7_byWords_85 : decode cX7_byWords 85 = .ok (.istore 5, 2) := dk_54 5 (dk_at dksX7_byWords_3 15 rfl rfl)
theorem dX7_byWords_87 : decode cX7_byWords 87 = .ok (.aload_n 0, 1) := dk_42 (dk_at dksX7_byWords_3 17 rfl rfl)
theorem dX7_byWords_88 : decode cX7_byWords 88 = .ok (.getfield 37, 3) := dk_180 0 37 (dk_at dksX7_byWords_3 18 rfl rfl)
theorem dX7_byWords_91 : decode cX7_byWords 91 = .ok (.getfield 54, 3) := dk_180 0 54 (dk_at dksX7_byWords_3 21 rfl rfl)
theorem dX7_byWords_94 : decode cX7_byWords 94 = .ok (.iload 5, 2) := dk_21 5 (dk_at dksX7_byWords_4 0 rfl rfl)
theorem dX7_byWords_96 : decode cX7_byWords 96 = .ok (.iconst 0, 1) := dk_3 (dk_at dksX7_byWords_4 2 rfl rfl)
theorem dX7_byWords_97 : decode cX7_byWords 97 = .ok (.iastore, 1) := dk_79 (dk_at dksX7_byWords_4 3 rfl rfl)
theorem dX7_byWords_98 : decode cX7_byWords 98 = .ok (.aload_n 0, 1) := dk_42 (dk_at dksX7_byWords_4 4 rfl rfl)
theorem dX7_byWords_99 : decode cX7_byWords 99 = .ok (.getfield 34, 3) := dk_180 0 34 (dk_at dksX7_byWords_4 5 rfl rfl)
theorem dX7_byWords_102 : decode cX7_byWords 102 = .ok (.getfield 54, 3) := dk_180 0 54 (dk_at dksX7_byWords_4 8 rfl rfl)
theorem dX7_byWords_105 : decode cX7_byWords 105 = .ok (.iload 4, 2) := dk_21 4 (dk_at dksX7_byWords_4 11 rfl rfl)
theorem dX7_byWords_107 : decode cX7_byWords 107 = .ok (.iconst 1, 1) := dk_4 (dk_at dksX7_byWords_4 13 rfl rfl)
theorem dX7_byWords_108 : decode cX7_byWords 108 = .ok (.isub, 1) := dk_100 (dk_at dksX7_byWords_4 14 rfl rfl)
theorem dX7_byWords_109 : decode cX7_byWords 109 = .ok (.iaload, 1) := dk_46 (dk_at dksX7_byWords_4 15 rfl rfl)
theorem dX7_byWords_110 : decode cX7_byWords 110 = .ok (.i2l, 1) := dk_133 (dk_at dksX7_byWords_4 16 rfl rfl)
theorem dX7_byWords_111 : decode cX7_byWords 111 = .ok (.ldc2_w 95, 3) := dk_20 0 95 (dk_at dksX7_byWords_4 17 rfl rfl)
theorem dX7_byWords_114 : decode cX7_byWords 114 = .ok (.land, 1) := dk_127 (dk_at dksX7_byWords_4 20 rfl rfl)
theorem dX7_byWords_115 : decode cX7_byWords 115 = .ok (.lstore 6, 2) := dk_55 6 (dk_at dksX7_byWords_4 21 rfl rfl)
theorem dX7_byWords_117 : decode cX7_byWords 117 = .ok (.iload 4, 2) := dk_21 4 (dk_at dksX7_byWords_5 0 rfl rfl)
theorem dX7_byWords_119 : decode cX7_byWords 119 = .ok (.iconst 1, 1) := dk_4 (dk_at dksX7_byWords_5 2 rfl rfl)
theorem dX7_byWords_120 : decode cX7_byWords 120 = .ok (.if_icmp .le 23, 3) := dk_164 0 23 (dk_at dksX7_byWords_5 3 rfl rfl)
theorem dX7_byWords_123 : decode cX7_byWords 123 = .ok (.aload_n 0, 1) := dk_42 (dk_at dksX7_byWords_5 6 rfl rfl)
theorem dX7_byWords_124 : decode cX7_byWords 124 = .ok (.getfield 34, 3) := dk_180 0 34 (dk_at dksX7_byWords_5 7 rfl rfl)
theorem dX7_byWords_127 : decode cX7_byWords 127 = .ok (.getfield 54, 3) := dk_180 0 54 (dk_at dksX7_byWords_5 10 rfl rfl)
theorem dX7_byWords_130 : decode cX7_byWords 130 = .ok (.iload 4, 2) := dk_21 4 (dk_at dksX7_byWords_5 13 rfl rfl)
theorem dX7_byWords_132 : decode cX7_byWords 132 = .ok (.iconst 2, 1) := dk_5 (dk_at dksX7_byWords_5 15 rfl rfl)
theorem dX7_byWords_133 : decode cX7_byWords 133 = .ok (.isub, 1) := dk_100 (dk_at dksX7_byWords_5 16 rfl rfl)
theorem dX7_byWords_134 : decode cX7_byWords 134 = .ok (.iaload, 1) := dk_46 (dk_at dksX7_byWords_5 17 rfl rfl)
theorem dX7_byWords_135 : decode cX7_byWords 135 = .ok (.i2l, 1) := dk_133 (dk_at dksX7_byWords_5 18 rfl rfl)
theorem dX7_byWords_136 : decode cX7_byWords 136 = .ok (.ldc2_w 95, 3) := dk_20 0 95 (dk_at dksX7_byWords_5 19 rfl rfl)
theorem dX7_byWords_139 : decode cX7_byWords 139 = .ok (.land, 1) := dk_127 (dk_at dksX7_byWords_5 22 rfl rfl)
theorem dX7_byWords_140 : decode cX7_byWords 140 = .ok (.goto 4, 3) := dk_167 0 4 (dk_at dksX7_byWords_6 0 rfl rfl)
theorem dX7_byWords_143 : decode cX7_byWords 143 = .ok (.lconst 0, 1) := dk_9 (dk_at dksX7_byWords_6 3 rfl rfl)
theorem dX7_byWords_144 : decode cX7_byWords 144 = .ok (.lstore 8, 2) := dk_55 8 (dk_at dksX7_byWords_6 4 rfl rfl)
theorem dX7_byWords_146 : decode cX7_byWords 146 = .ok (.iload 5, 2) := dk_21 5 (dk_at dksX7_byWords_6 6 rfl rfl)
theorem dX7_byWords_148 : decode cX7_byWords 148 = .ok (.iload 4, 2) := dk_21 4 (dk_at dksX7_byWords_6 8 rfl rfl)
theorem dX7_byWords_150 : decode cX7_byWords 150 = .ok (.isub, 1) := dk_100 (dk_at dksX7_byWords_6 10 rfl rfl)
theorem dX7_byWords_151 : decode cX7_byWords 151 = .ok (.istore 10, 2) := dk_54 10 (dk_at dksX7_byWords_6 11 rfl rfl)
theorem dX7_byWords_153 : decode cX7_byWords 153 = .ok (.iload 10, 2) := dk_21 10 (dk_at dksX7_byWords_6 13 rfl rfl)
theorem dX7_byWords_155 : decode cX7_byWords 155 = .ok (.ifCond .lt 216, 3) := dk_155 0 216 (dk_at dksX7_byWords_6 15 rfl rfl)
theorem dX7_byWords_158 : decode cX7_byWords 158 = .ok (.aload_n 0, 1) := dk_42 (dk_at dksX7_byWords_6 18 rfl rfl)
theorem dX7_byWords_159 : decode cX7_byWords 159 = .ok (.getfield 37, 3) := dk_180 0 37 (dk_at dksX7_byWords_6 19 rfl rfl)
theorem dX7_byWords_162 : decode cX7_byWords 162 = .ok (.getfield 54, 3) := dk_180 0 54 (dk_at dksX7_byWords_7 0 rfl rfl)
theorem dX7_byWords_165 : decode cX7_byWords 165 = .ok (.iload 10, 2) := dk_21 10 (dk_at dksX7_byWords_7 3 rfl rfl)
theorem dX7_byWords_167 : decode cX7_byWords 167 = .ok (.iload 4, 2) := dk_21 4 (dk_at dksX7_byWords_7 5 rfl rfl)
theorem dX7_byWords_169 : decode cX7_byWords 169 = .ok (.iadd, 1) := dk_96 (dk_at dksX7_byWords_7 7 rfl rfl)
theorem dX7_byWords_170 : decode cX7_byWords 170 = .ok (.iaload, 1) := dk_46 (dk_at dksX7_byWords_7 8 rfl rfl)
theorem dX7_byWords_171 : decode cX7_byWords 171 = .ok (.i2l, 1) := dk_133 (dk_at dksX7_byWords_7 9 rfl rfl)
theorem dX7_byWords_172 : decode cX7_byWords 172 = .ok (.ldc2_w 95, 3) := dk_20 0 95 (dk_at dksX7_byWords_7 10 rfl rfl)
theorem dX7_byWords_175 : decode cX7_byWords 175 = .ok (.land, 1) := dk_127 (dk_at dksX7_byWords_7 13 rfl rfl)
theorem dX7_byWords_176 : decode cX7_byWords 176 = .ok (.bipush 32, 2) := dk_16 32 (dk_at dksX7_byWords_7 14 rfl rfl)
theorem dX7_byWords_178 : decode cX7_byWords 178 = .ok (.lshl, 1) := dk_121 (dk_at dksX7_byWords_7 16 rfl rfl)
theorem dX7_byWords_179 : decode cX7_byWords 179 = .ok (.aload_n 0, 1) := dk_42 (dk_at dksX7_byWords_7 17 rfl rfl)
theorem dX7_byWords_180 : decode cX7_byWords 180 = .ok (.getfield 37, 3) := dk_180 0 37 (dk_at dksX7_byWords_7 18 rfl rfl)
theorem dX7_byWords_183 : decode cX7_byWords 183 = .ok (.getfield 54, 3) := dk_180 0 54 (dk_at dksX7_byWords_7 21 rfl rfl)
theorem dX7_byWords_186 : decode cX7_byWords 186 = .ok (.iload 10, 2) := dk_21 10 (dk_at dksX7_byWords_8 0 rfl rfl)
theorem dX7_byWords_188 : decode cX7_byWords 188 = .ok (.iload 4, 2) := dk_21 4 (dk_at dksX7_byWords_8 2 rfl rfl)
theorem dX7_byWords_190 : decode cX7_byWords 190 = .ok (.iadd, 1) := dk_96 (dk_at dksX7_byWords_8 4 rfl rfl)
theorem dX7_byWords_191 : decode cX7_byWords 191 = .ok (.iconst 1, 1) := dk_4 (dk_at dksX7_byWords_8 5 rfl rfl)
theorem dX7_byWords_192 : decode cX7_byWords 192 = .ok (.isub, 1) := dk_100 (dk_at dksX7_byWords_8 6 rfl rfl)
theorem dX7_byWords_193 : decode cX7_byWords 193 = .ok (.iaload, 1) := dk_46 (dk_at dksX7_byWords_8 7 rfl rfl)
theorem dX7_byWords_194 : decode cX7_byWords 194 = .ok (.i2l, 1) := dk_133 (dk_at dksX7_byWords_8 8 rfl rfl)
theorem dX7_byWords_195 : decode cX7_byWords 195 = .ok (.ldc2_w 95, 3) := dk_20 0 95 (dk_at dksX7_byWords_8 9 rfl rfl)
theorem dX7_byWords_198 : decode cX7_byWords 198 = .ok (.land, 1) := dk_127 (dk_at dksX7_byWords_8 12 rfl rfl)
theorem dX7_byWords_199 : decode cX7_byWords 199 = .ok (.lor, 1) := dk_129 (dk_at dksX7_byWords_8 13 rfl rfl)
theorem dX7_byWords_200 : decode cX7_byWords 200 = .ok (.lstore 11, 2) := dk_55 11 (dk_at dksX7_byWords_8 14 rfl rfl)
theorem dX7_byWords_202 : decode cX7_byWords 202 = .ok (.lload 11, 2) := dk_22 11 (dk_at dksX7_byWords_8 16 rfl rfl)
theorem dX7_byWords_204 : decode cX7_byWords 204 = .ok (.lload 6, 2) := dk_22 6 (dk_at dksX7_byWords_8 18 rfl rfl)
theorem dX7_byWords_206 : decode cX7_byWords 206 = .ok (.invokestatic 97, 3) := dk_184 0 97 (dk_at dksX7_byWords_8 20 rfl rfl)
theorem dX7_byWords_209 : decode cX7_byWords 209 = .ok (.lstore 13, 2) := dk_55 13 (dk_at dksX7_byWords_9 0 rfl rfl)
theorem dX7_byWords_211 : decode cX7_byWords 211 = .ok (.lload 11, 2) := dk_22 11 (dk_at dksX7_byWords_9 2 rfl rfl)
theorem dX7_byWords_213 : decode cX7_byWords 213 = .ok (.lload 13, 2) := dk_22 13 (dk_at dksX7_byWords_9 4 rfl rfl)
theorem dX7_byWords_215 : decode cX7_byWords 215 = .ok (.lload 6, 2) := dk_22 6 (dk_at dksX7_byWords_9 6 rfl rfl)
theorem dX7_byWords_217 : decode cX7_byWords 217 = .ok (.lmul, 1) := dk_105 (dk_at dksX7_byWords_9 8 rfl rfl)
theorem dX7_byWords_218 : decode cX7_byWords 218 = .ok (.lsub, 1) := dk_101 (dk_at dksX7_byWords_9 9 rfl rfl)
theorem dX7_byWords_219 : decode cX7_byWords 219 = .ok (.lstore 15, 2) := dk_55 15 (dk_at dksX7_byWords_9 10 rfl rfl)
theorem dX7_byWords_221 : decode cX7_byWords 221 = .ok (.iload 4, 2) := dk_21 4 (dk_at dksX7_byWords_9 12 rfl rfl)
theorem dX7_byWords_223 : decode cX7_byWords 223 = .ok (.iconst 1, 1) := dk_4 (dk_at dksX7_byWords_9 14 rfl rfl)
theorem dX7_byWords_224 : decode cX7_byWords 224 = .ok (.if_icmp .le 26, 3) := dk_164 0 26 (dk_at dksX7_byWords_9 15 rfl rfl)
theorem dX7_byWords_227 : decode cX7_byWords 227 = .ok (.aload_n 0, 1) := dk_42 (dk_at dksX7_byWords_9 18 rfl rfl)
theorem dX7_byWords_228 : decode cX7_byWords 228 = .ok (.getfield 37, 3) := dk_180 0 37 (dk_at dksX7_byWords_9 19 rfl rfl)
theorem dX7_byWords_231 : decode cX7_byWords 231 = .ok (.getfield 54, 3) := dk_180 0 54 (dk_at dksX7_byWords_10 0 rfl rfl)
theorem dX7_byWords_234 : decode cX7_byWords 234 = .ok (.iload 10, 2) := dk_21 10 (dk_at dksX7_byWords_10 3 rfl rfl)
theorem dX7_byWords_236 : decode cX7_byWords 236 = .ok (.iload 4, 2) := dk_21 4 (dk_at dksX7_byWords_10 5 rfl rfl)
theorem dX7_byWords_238 : decode cX7_byWords 238 = .ok (.iadd, 1) := dk_96 (dk_at dksX7_byWords_10 7 rfl rfl)
theorem dX7_byWords_239 : decode cX7_byWords 239 = .ok (.iconst 2, 1) := dk_5 (dk_at dksX7_byWords_10 8 rfl rfl)
theorem dX7_byWords_240 : decode cX7_byWords 240 = .ok (.isub, 1) := dk_100 (dk_at dksX7_byWords_10 9 rfl rfl)
theorem dX7_byWords_241 : decode cX7_byWords 241 = .ok (.iaload, 1) := dk_46 (dk_at dksX7_byWords_10 10 rfl rfl)
theorem dX7_byWords_242 : decode cX7_byWords 242 = .ok (.i2l, 1) := dk_133 (dk_at dksX7_byWords_10 11 rfl rfl)
theorem dX7_byWords_243 : decode cX7_byWords 243 = .ok (.ldc2_w 95, 3) := dk_20 0 95 (dk_at dksX7_byWords_10 12 rfl rfl)
theorem dX7_byWords_246 : decode cX7_byWords 246 = .ok (.land, 1) := dk_127 (dk_at dksX7_byWords_10 15 rfl rfl)
theorem dX7_byWords_247 : decode cX7_byWords 247 = .ok (.goto 4, 3) := dk_167 0 4 (dk_at dksX7_byWords_10 16 rfl rfl)
theorem dX7_byWords_250 : decode cX7_byWords 250 = .ok (.lconst 0, 1) := dk_9 (dk_at dksX7_byWords_10 19 rfl rfl)
theorem dX7_byWords_251 : decode cX7_byWords 251 = .ok (.lstore 17, 2) := dk_55 17 (dk_at dksX7_byWords_10 20 rfl rfl)
theorem dX7_byWords_253 : decode cX7_byWords 253 = .ok (.lload 13, 2) := dk_22 13 (dk_at dksX7_byWords_10 22 rfl rfl)
theorem dX7_byWords_255 : decode cX7_byWords 255 = .ok (.ldc2_w 95, 3) := dk_20 0 95 (dk_at dksX7_byWords_11 0 rfl rfl)
theorem dX7_byWords_258 : decode cX7_byWords 258 = .ok (.lcmp, 1) := dk_148 (dk_at dksX7_byWords_11 3 rfl rfl)
theorem dX7_byWords_259 : decode cX7_byWords 259 = .ok (.ifCond .le 22, 3) := dk_158 0 22 (dk_at dksX7_byWords_11 4 rfl rfl)
theorem dX7_byWords_262 : decode cX7_byWords 262 = .ok (.lload 15, 2) := dk_22 15 (dk_at dksX7_byWords_11 7 rfl rfl)
theorem dX7_byWords_264 : decode cX7_byWords 264 = .ok (.lload 13, 2) := dk_22 13 (dk_at dksX7_byWords_11 9 rfl rfl)
theorem dX7_byWords_266 : decode cX7_byWords 266 = .ok (.ldc2_w 95, 3) := dk_20 0 95 (dk_at dksX7_byWords_11 11 rfl rfl)
theorem dX7_byWords_269 : decode cX7_byWords 269 = .ok (.lsub, 1) := dk_101 (dk_at dksX7_byWords_11 14 rfl rfl)
theorem dX7_byWords_270 : decode cX7_byWords 270 = .ok (.lload 6, 2) := dk_22 6 (dk_at dksX7_byWords_11 15 rfl rfl)
theorem dX7_byWords_272 : decode cX7_byWords 272 = .ok (.lmul, 1) := dk_105 (dk_at dksX7_byWords_11 17 rfl rfl)
theorem dX7_byWords_273 : decode cX7_byWords 273 = .ok (.ladd, 1) := dk_97 (dk_at dksX7_byWords_11 18 rfl rfl)
theorem dX7_byWords_274 : decode cX7_byWords 274 = .ok (.lstore 15, 2) := dk_55 15 (dk_at dksX7_byWords_11 19 rfl rfl)
theorem dX7_byWords_276 : decode cX7_byWords 276 = .ok (.ldc2_w 95, 3) := dk_20 0 95 (dk_at dksX7_byWords_11 21 rfl rfl)
theorem dX7_byWords_279 : decode cX7_byWords 279 = .ok (.lstore 13, 2) := dk_55 13 (dk_at dksX7_byWords_12 0 rfl rfl)
theorem dX7_byWords_281 : decode cX7_byWords 281 = .ok (.lload 15, 2) := dk_22 15 (dk_at dksX7_byWords_12 2 rfl rfl)
theorem dX7_byWords_283 : decode cX7_byWords 283 = .ok (.ldc2_w 95, 3) := dk_20 0 95 (dk_at dksX7_byWords_12 4 rfl rfl)
theorem dX7_byWords_286 : decode cX7_byWords 286 = .ok (.lcmp, 1) := dk_148 (dk_at dksX7_byWords_12 7 rfl rfl)
theorem dX7_byWords_287 : decode cX7_byWords 287 = .ok (.ifCond .gt 38, 3) := dk_157 0 38 (dk_at dksX7_byWords_12 8 rfl rfl)
theorem dX7_byWords_290 : decode cX7_byWords 290 = .ok (.lload 13, 2) := dk_22 13 (dk_at dksX7_byWords_12 11 rfl rfl)
theorem dX7_byWords_292 : decode cX7_byWords 292 = .ok (.lload 8, 2) := dk_22 8 (dk_at dksX7_byWords_12 13 rfl rfl)
theorem dX7_byWords_294 : decode cX7_byWords 294 = .ok (.lmul, 1) := dk_105 (dk_at dksX7_byWords_12 15 rfl rfl)
theorem dX7_byWords_295 : decode cX7_byWords 295 = .ok (.lload 15, 2) := dk_22 15 (dk_at dksX7_byWords_12 16 rfl rfl)
theorem dX7_byWords_297 : decode cX7_byWords 297 = .ok (.bipush 32, 2) := dk_16 32 (dk_at dksX7_byWords_12 18 rfl rfl)
theorem dX7_byWords_299 : decode cX7_byWords 299 = .ok (.lshl, 1) := dk_121 (dk_at dksX7_byWords_12 20 rfl rfl)
theorem dX7_byWords_300 : decode cX7_byWords 300 = .ok (.lload 17, 2) := dk_22 17 (dk_at dksX7_byWords_12 21 rfl rfl)
theorem dX7_byWords_302 : decode cX7_byWords 302 = .ok (.lor, 1) := dk_129 (dk_at dksX7_byWords_12 23 rfl rfl)
theorem dX7_byWords_303 : decode cX7_byWords 303 = .ok (.invokestatic 100, 3) := dk_184 0 100 (dk_at dksX7_byWords_13 0 rfl rfl)
theorem dX7_byWords_306 : decode cX7_byWords 306 = .ok (.ifCond .eq 19, 3) := dk_153 0 19 (dk_at dksX7_byWords_13 3 rfl rfl)
theorem dX7_byWords_309 : decode cX7_byWords 309 = .ok (.lload 13, 2) := dk_22 13 (dk_at dksX7_byWords_13 6 rfl rfl)
theorem dX7_byWords_311 : decode cX7_byWords 311 = .ok (.lconst 1, 1) := dk_10 (dk_at dksX7_byWords_13 8 rfl rfl)
theorem dX7_byWords_312 : decode cX7_byWords 312 = .ok (.lsub, 1) := dk_101 (dk_at dksX7_byWords_13 9 rfl rfl)
theorem dX7_byWords_313 : decode cX7_byWords 313 = .ok (.lstore 13, 2) := dk_55 13 (dk_at dksX7_byWords_13 10 rfl rfl)
theorem dX7_byWords_315 : decode cX7_byWords 315 = .ok (.lload 15, 2) := dk_22 15 (dk_at dksX7_byWords_13 12 rfl rfl)
theorem dX7_byWords_317 : decode cX7_byWords 317 = .ok (.lload 6, 2) := dk_22 6 (dk_at dksX7_byWords_13 14 rfl rfl)
theorem dX7_byWords_319 : decode cX7_byWords 319 = .ok (.ladd, 1) := dk_97 (dk_at dksX7_byWords_13 16 rfl rfl)
theorem dX7_byWords_320 : decode cX7_byWords 320 = .ok (.lstore 15, 2) := dk_55 15 (dk_at dksX7_byWords_13 17 rfl rfl)
theorem dX7_byWords_322 : decode cX7_byWords 322 = .ok (.goto (-41), 3) := dk_167 255 215 (dk_at dksX7_byWords_13 19 rfl rfl)
theorem dX7_byWords_325 : decode cX7_byWords 325 = .ok (.aload_n 0, 1) := dk_42 (dk_at dksX7_byWords_13 22 rfl rfl)
theorem dX7_byWords_326 : decode cX7_byWords 326 = .ok (.iload 10, 2) := dk_21 10 (dk_at dksX7_byWords_14 0 rfl rfl)
theorem dX7_byWords_328 : decode cX7_byWords 328 = .ok (.iload 4, 2) := dk_21 4 (dk_at dksX7_byWords_14 2 rfl rfl)
theorem dX7_byWords_330 : decode cX7_byWords 330 = .ok (.lload 13, 2) := dk_22 13 (dk_at dksX7_byWords_14 4 rfl rfl)
theorem dX7_byWords_332 : decode cX7_byWords 332 = .ok (.invokevirtual 104, 3) := dk_182 0 104 (dk_at dksX7_byWords_14 6 rfl rfl)
theorem dX7_byWords_335 : decode cX7_byWords 335 = .ok (.ifCond .eq 17, 3) := dk_153 0 17 (dk_at dksX7_byWords_14 9 rfl rfl)
theorem dX7_byWords_338 : decode cX7_byWords 338 = .ok (.lload 13, 2) := dk_22 13 (dk_at dksX7_byWords_14 12 rfl rfl)
theorem dX7_byWords_340 : decode cX7_byWords 340 = .ok (.lconst 1, 1) := dk_10 (dk_at dksX7_byWords_14 14 rfl rfl)
theorem dX7_byWords_341 : decode cX7_byWords 341 = .ok (.lsub, 1) := dk_101 (dk_at dksX7_byWords_14 15 rfl rfl)
theorem dX7_byWords_342 : decode cX7_byWords 342 = .ok (.lstore 13, 2) := dk_55 13 (dk_at dksX7_byWords_14 16 rfl rfl)
theorem dX7_byWords_344 : decode cX7_byWords 344 = .ok (.aload_n 0, 1) := dk_42 (dk_at dksX7_byWords_14 18 rfl rfl)
theorem dX7_byWords_345 : decode cX7_byWords 345 = .ok (.iload 10, 2) := dk_21 10 (dk_at dksX7_byWords_14 19 rfl rfl)
theorem dX7_byWords_347 : decode cX7_byWords 347 = .ok (.iload 4, 2) := dk_21 4 (dk_at dksX7_byWords_14 21 rfl rfl)
theorem dX7_byWords_349 : decode cX7_byWords 349 = .ok (.invokevirtual 108, 3) := dk_182 0 108 (dk_at dksX7_byWords_15 0 rfl rfl)
theorem dX7_byWords_352 : decode cX7_byWords 352 = .ok (.aload_n 0, 1) := dk_42 (dk_at dksX7_byWords_15 3 rfl rfl)
theorem dX7_byWords_353 : decode cX7_byWords 353 = .ok (.getfield 10, 3) := dk_180 0 10 (dk_at dksX7_byWords_15 4 rfl rfl)
theorem dX7_byWords_356 : decode cX7_byWords 356 = .ok (.getfield 54, 3) := dk_180 0 54 (dk_at dksX7_byWords_15 7 rfl rfl)
theorem dX7_byWords_359 : decode cX7_byWords 359 = .ok (.iload 10, 2) := dk_21 10 (dk_at dksX7_byWords_15 10 rfl rfl)
theorem dX7_byWords_361 : decode cX7_byWords 361 = .ok (.lload 13, 2) := dk_22 13 (dk_at dksX7_byWords_15 12 rfl rfl)
theorem dX7_byWords_363 : decode cX7_byWords 363 = .ok (.l2i, 1) := dk_136 (dk_at dksX7_byWords_15 14 rfl rfl)
theorem dX7_byWords_364 : decode cX7_byWords 364 = .ok (.iastore, 1) := dk_79 (dk_at dksX7_byWords_15 15 rfl rfl)
theorem dX7_byWords_365 : decode cX7_byWords 365 = .ok (.iinc 10 (-1), 3) := dk_132 10 255 (dk_at dksX7_byWords_15 16 rfl rfl)
theorem dX7_byWords_368 : decode cX7_byWords 368 = .ok (.goto (-215), 3) := dk_167 255 41 (dk_at dksX7_byWords_15 19 rfl rfl)
theorem dX7_byWords_371 : decode cX7_byWords 371 = .ok (.aload_n 0, 1) := dk_42 (dk_at dksX7_byWords_15 22 rfl rfl)
theorem dX7_byWords_372 : decode cX7_byWords 372 = .ok (.getfield 10, 3) := dk_180 0 10 (dk_at dksX7_byWords_16 0 rfl rfl)
theorem dX7_byWords_375 : decode cX7_byWords 375 = .ok (.iload 5, 2) := dk_21 5 (dk_at dksX7_byWords_16 3 rfl rfl)
theorem dX7_byWords_377 : decode cX7_byWords 377 = .ok (.iload 4, 2) := dk_21 4 (dk_at dksX7_byWords_16 5 rfl rfl)
theorem dX7_byWords_379 : decode cX7_byWords 379 = .ok (.isub, 1) := dk_100 (dk_at dksX7_byWords_16 7 rfl rfl)
theorem dX7_byWords_380 : decode cX7_byWords 380 = .ok (.iconst 1, 1) := dk_4 (dk_at dksX7_byWords_16 8 rfl rfl)
theorem dX7_byWords_381 : decode cX7_byWords 381 = .ok (.iadd, 1) := dk_96 (dk_at dksX7_byWords_16 9 rfl rfl)
theorem dX7_byWords_382 : decode cX7_byWords 382 = .ok (.putfield 50, 3) := dk_181 0 50 (dk_at dksX7_byWords_16 10 rfl rfl)
theorem dX7_byWords_385 : decode cX7_byWords 385 = .ok (.aload_n 0, 1) := dk_42 (dk_at dksX7_byWords_16 13 rfl rfl)
theorem dX7_byWords_386 : decode cX7_byWords 386 = .ok (.getfield 10, 3) := dk_180 0 10 (dk_at dksX7_byWords_16 14 rfl rfl)
theorem dX7_byWords_389 : decode cX7_byWords 389 = .ok (.iconst 0, 1) := dk_3 (dk_at dksX7_byWords_16 17 rfl rfl)
theorem dX7_byWords_390 : decode cX7_byWords 390 = .ok (.putfield 62, 3) := dk_181 0 62 (dk_at dksX7_byWords_16 18 rfl rfl)
theorem dX7_byWords_393 : decode cX7_byWords 393 = .ok (.aload_n 0, 1) := dk_42 (dk_at dksX7_byWords_16 21 rfl rfl)
theorem dX7_byWords_394 : decode cX7_byWords 394 = .ok (.getfield 10, 3) := dk_180 0 10 (dk_at dksX7_byWords_17 0 rfl rfl)
theorem dX7_byWords_397 : decode cX7_byWords 397 = .ok (.invokevirtual 77, 3) := dk_182 0 77 (dk_at dksX7_byWords_17 3 rfl rfl)
theorem dX7_byWords_400 : decode cX7_byWords 400 = .ok (.aload_n 0, 1) := dk_42 (dk_at dksX7_byWords_17 6 rfl rfl)
theorem dX7_byWords_401 : decode cX7_byWords 401 = .ok (.getfield 16, 3) := dk_180 0 16 (dk_at dksX7_byWords_17 7 rfl rfl)
theorem dX7_byWords_404 : decode cX7_byWords 404 = .ok (.aload_n 0, 1) := dk_42 (dk_at dksX7_byWords_17 10 rfl rfl)
theorem dX7_byWords_405 : decode cX7_byWords 405 = .ok (.getfield 37, 3) := dk_180 0 37 (dk_at dksX7_byWords_17 11 rfl rfl)
theorem dX7_byWords_408 : decode cX7_byWords 408 = .ok (.invokevirtual 58, 3) := dk_182 0 58 (dk_at dksX7_byWords_17 14 rfl rfl)
theorem dX7_byWords_411 : decode cX7_byWords 411 = .ok (.aload_n 0, 1) := dk_42 (dk_at dksX7_byWords_17 17 rfl rfl)
theorem dX7_byWords_412 : decode cX7_byWords 412 = .ok (.getfield 16, 3) := dk_180 0 16 (dk_at dksX7_byWords_17 18 rfl rfl)
theorem dX7_byWords_415 : decode cX7_byWords 415 = .ok (.iload 4, 2) := dk_21 4 (dk_at dksX7_byWords_17 21 rfl rfl)
theorem dX7_byWords_417 : decode cX7_byWords 417 = .ok (.putfield 50, 3) := dk_181 0 50 (dk_at dksX7_byWords_18 0 rfl rfl)
theorem dX7_byWords_420 : decode cX7_byWords 420 = .ok (.aload_n 0, 1) := dk_42 (dk_at dksX7_byWords_18 3 rfl rfl)
theorem dX7_byWords_421 : decode cX7_byWords 421 = .ok (.getfield 16, 3) := dk_180 0 16 (dk_at dksX7_byWords_18 4 rfl rfl)
theorem dX7_byWords_424 : decode cX7_byWords 424 = .ok (.iconst 0, 1) := dk_3 (dk_at dksX7_byWords_18 7 rfl rfl)
theorem dX7_byWords_425 : decode cX7_byWords 425 = .ok (.putfield 62, 3) := dk_181 0 62 (dk_at dksX7_byWords_18 8 rfl rfl)
theorem dX7_byWords_428 : decode cX7_byWords 428 = .ok (.aload_n 0, 1) := dk_42 (dk_at dksX7_byWords_18 11 rfl rfl)
theorem dX7_byWords_429 : decode cX7_byWords 429 = .ok (.getfield 16, 3) := dk_180 0 16 (dk_at dksX7_byWords_18 12 rfl rfl)
theorem dX7_byWords_432 : decode cX7_byWords 432 = .ok (.invokevirtual 77, 3) := dk_182 0 77 (dk_at dksX7_byWords_18 15 rfl rfl)
theorem dX7_byWords_435 : decode cX7_byWords 435 = .ok (.aload_n 0, 1) := dk_42 (dk_at dksX7_byWords_18 18 rfl rfl)
theorem dX7_byWords_436 : decode cX7_byWords 436 = .ok (.getfield 16, 3) := dk_180 0 16 (dk_at dksX7_byWords_18 19 rfl rfl)
theorem dX7_byWords_439 : decode cX7_byWords 439 = .ok (.iload_n 3, 1) := dk_29 (dk_at dksX7_byWords_18 22 rfl rfl)
theorem dX7_byWords_440 : decode cX7_byWords 440 = .ok (.invokevirtual 112, 3) := dk_182 0 112 (dk_at dksX7_byWords_19 0 rfl rfl)
theorem dX7_byWords_443 : decode cX7_byWords 443 = .ok (.istore 10, 2) := dk_54 10 (dk_at dksX7_byWords_19 3 rfl rfl)
theorem dX7_byWords_445 : decode cX7_byWords 445 = .ok (.return_, 1) := dk_177 (dk_at dksX7_byWords_19 5 rfl rfl)
abbrev cX7_over : ByteArray := prog_24_method_5_code
def yX7_over : MethodName := ⟨RX7, "ove\x72", "(JJ)J"⟩
def dkwX7_over_2 : List UInt8 := [22, 4, 173]
abbrev dktX7_over_2 : List UInt8 := dkwX7_over_2 ++ []
def dkwX7_over_1 : List UInt8 := [101, 55, 6, 22, 6, 9, 148, 155, 0, 10, 22, 6, 32, 148, 155, 0, 10, 22, 4, 10, 97, 167, 0, 5]
abbrev dktX7_over_1 : List UInt8 := dkwX7_over_1 ++ dktX7_over_2
def dkwX7_over_0 : List UInt8 := [30, 9, 148, 155, 0, 7, 30, 32, 109, 173, 30, 4, 125, 32, 109, 4, 121, 55, 4, 30, 22, 4, 32, 105]
abbrev dktX7_over_0 : List UInt8 := dkwX7_over_0 ++ dktX7_over_1
theorem dksX7_over_0 : cX7_over.data.toList.drop 0 = dktX7_over_0 := by decide +kernel
theorem dksX7_over_1 : cX7_over.data.toList.drop 24 = dktX7_over_1 := dk_seg dksX7_over_0 24 rfl rfl
theorem dksX7_over_2 : cX7_over.data.toList.drop 48 = dktX7_over_2 := dk_seg dksX7_over_1 24 rfl rfl
theorem dX7_over_0 : decode cX7_over 0 = .ok (.lload_n 0, 1) := dk_30 (dk_at dksX7_over_0 0 rfl rfl)
theorem dX7_over_1 : decode cX7_over 1 = .ok (.lconst 0, 1) := dk_9 (dk_at dksX7_over_0 1 rfl rfl)
theorem dX7_over_2 : decode cX7_over 2 = .ok (.lcmp, 1) := dk_148 (dk_at dksX7_over_0 2 rfl rfl)
theorem dX7_over_3 : decode cX7_over 3 = .ok (.ifCond .lt 7, 3) := dk_155 0 7 (dk_at dksX7_over_0 3 rfl rfl)
theorem dX7_over_6 : decode cX7_over 6 = .ok (.lload_n 0, 1) := dk_30 (dk_at dksX7_over_0 6 rfl rfl)
theorem dX7_over_7 : decode cX7_over 7 = .ok (.lload_n 2, 1) := dk_32 (dk_at dksX7_over_0 7 rfl rfl)
theorem dX7_over_8 : decode cX7_over 8 = .ok (.ldiv, 1) := dk_109 (dk_at dksX7_over_0 8 rfl rfl)
theorem dX7_over_9 : decode cX7_over 9 = .ok (.lreturn, 1) := dk_173 (dk_at dksX7_over_0 9 rfl rfl)
theorem dX7_over_10 : decode cX7_over 10 = .ok (.lload_n 0, 1) := dk_30 (dk_at dksX7_over_0 10 rfl rfl)
theorem dX7_over_11 : decode cX7_over 11 = .ok (.iconst 1, 1) := dk_4 (dk_at dksX7_over_0 11 rfl rfl)
theorem dX7_over_12 : decode cX7_over 12 = .ok (.lushr, 1) := dk_125 (dk_at dksX7_over_0 12 rfl rfl)
theorem dX7_over_13 : decode cX7_over 13 = .ok (.lload_n 2, 1) := dk_32 (dk_at dksX7_over_0 13 rfl rfl)
theorem dX7_over_14 : decode cX7_over 14 = .ok (.ldiv, 1) := dk_109 (dk_at dksX7_over_0 14 rfl rfl)
theorem dX7_over_15 : decode cX7_over 15 = .ok (.iconst 1, 1) := dk_4 (dk_at dksX7_over_0 15 rfl rfl)
theorem dX7_over_16 : decode cX7_over 16 = .ok (.lshl, 1) := dk_121 (dk_at dksX7_over_0 16 rfl rfl)
theorem dX7_over_17 : decode cX7_over 17 = .ok (.lstore 4, 2) := dk_55 4 (dk_at dksX7_over_0 17 rfl rfl)
theorem dX7_over_19 : decode cX7_over 19 = .ok (.lload_n 0, 1) := dk_30 (dk_at dksX7_over_0 19 rfl rfl)
theorem dX7_over_20 : decode cX7_over 20 = .ok (.lload 4, 2) := dk_22 4 (dk_at dksX7_over_0 20 rfl rfl)
theorem dX7_over_22 : decode cX7_over 22 = .ok (.lload_n 2, 1) := dk_32 (dk_at dksX7_over_0 22 rfl rfl)
theorem dX7_over_23 : decode cX7_over 23 = .ok (.lmul, 1) := dk_105 (dk_at dksX7_over_0 23 rfl rfl)
theorem dX7_over_24 : decode cX7_over 24 = .ok (.lsub, 1) := dk_101 (dk_at dksX7_over_1 0 rfl rfl)
theorem dX7_over_25 : decode cX7_over 25 = .ok (.lstore 6, 2) := dk_55 6 (dk_at dksX7_over_1 1 rfl rfl)
theorem dX7_over_27 : decode cX7_over 27 = .ok (.lload 6, 2) := dk_22 6 (dk_at dksX7_over_1 3 rfl rfl)
theorem dX7_over_29 : decode cX7_over 29 = .ok (.lconst 0, 1) := dk_9 (dk_at dksX7_over_1 5 rfl rfl)
theorem dX7_over_30 : decode cX7_over 30 = .ok (.lcmp, 1) := dk_148 (dk_at dksX7_over_1 6 rfl rfl)
theorem dX7_over_31 : decode cX7_over 31 = .ok (.ifCond .lt 10, 3) := dk_155 0 10 (dk_at dksX7_over_1 7 rfl rfl)
theorem dX7_over_34 : decode cX7_over 34 = .ok (.lload 6, 2) := dk_22 6 (dk_at dksX7_over_1 10 rfl rfl)
theorem dX7_over_36 : decode cX7_over 36 = .ok (.lload_n 2, 1) := dk_32 (dk_at dksX7_over_1 12 rfl rfl)
theorem dX7_over_37 : decode cX7_over 37 = .ok (.lcmp, 1) := dk_148 (dk_at dksX7_over_1 13 rfl rfl)
theorem dX7_over_38 : decode cX7_over 38 = .ok (.ifCond .lt 10, 3) := dk_155 0 10 (dk_at dksX7_over_1 14 rfl rfl)
theorem dX7_over_41 : decode cX7_over 41 = .ok (.lload 4, 2) := dk_22 4 (dk_at dksX7_over_1 17 rfl rfl)
theorem dX7_over_43 : decode cX7_over 43 = .ok (.lconst 1, 1) := dk_10 (dk_at dksX7_over_1 19 rfl rfl)
theorem dX7_over_44 : decode cX7_over 44 = .ok (.ladd, 1) := dk_97 (dk_at dksX7_over_1 20 rfl rfl)
theorem dX7_over_45 : decode cX7_over 45 = .ok (.goto 5, 3) := dk_167 0 5 (dk_at dksX7_over_1 21 rfl rfl)
theorem dX7_over_48 : decode cX7_over 48 = .ok (.lload 4, 2) := dk_22 4 (dk_at dksX7_over_2 0 rfl rfl)
theorem dX7_over_50 : decode cX7_over 50 = .ok (.lreturn, 1) := dk_173 (dk_at dksX7_over_2 2 rfl rfl)
abbrev cX7_above : ByteArray := prog_24_method_4_code
def yX7_above : MethodName := ⟨RX7, "above", "(JJ)Z"⟩
def dkwX7_above_0 : List UInt8 := [30, 20, 0, 116, 97, 32, 20, 0, 116, 97, 148, 158, 0, 7, 4, 167, 0, 4, 3, 172]
abbrev dktX7_above_0 : List UInt8 := dkwX7_above_0 ++ []
theorem dksX7_above_0 : cX7_above.data.toList.drop 0 = dktX7_above_0 := by decide +kernel
theorem dX7_above_0 : decode cX7_above 0 = .ok (.lload_n 0, 1) := dk_30 (dk_at dksX7_above_0 0 rfl rfl)
theorem dX7_above_1 : decode cX7_above 1 = .ok (.ldc2_w 116, 3) := dk_20 0 116 (dk_at dksX7_above_0 1 rfl rfl)
theorem dX7_above_4 : decode cX7_above 4 = .ok (.ladd, 1) := dk_97 (dk_at dksX7_above_0 4 rfl rfl)
theorem dX7_above_5 : decode cX7_above 5 = .ok (.lload_n 2, 1) := dk_32 (dk_at dksX7_above_0 5 rfl rfl)
theorem dX7_above_6 : decode cX7_above 6 = .ok (.ldc2_w 116, 3) := dk_20 0 116 (dk_at dksX7_above_0 6 rfl rfl)
theorem dX7_above_9 : decode cX7_above 9 = .ok (.ladd, 1) := dk_97 (dk_at dksX7_above_0 9 rfl rfl)
theorem dX7_above_10 : decode cX7_above 10 = .ok (.lcmp, 1) := dk_148 (dk_at dksX7_above_0 10 rfl rfl)
theorem dX7_above_11 : decode cX7_above 11 = .ok (.ifCond .le 7, 3) := dk_158 0 7 (dk_at dksX7_above_0 11 rfl rfl)
theorem dX7_above_14 : decode cX7_above 14 = .ok (.iconst 1, 1) := dk_4 (dk_at dksX7_above_0 14 rfl rfl)
theorem dX7_above_15 : decode cX7_above 15 = .ok (.goto 4, 3) := dk_167 0 4 (dk_at dksX7_above_0 15 rfl rfl)
theorem dX7_above_18 : decode cX7_above 18 = .ok (.iconst 0, 1) := dk_3 (dk_at dksX7_above_0 18 rfl rfl)
theorem dX7_above_19 : decode cX7_above 19 = .ok (.ireturn, 1) := dk_172 (dk_at dksX7_above_0 19 rfl rfl)
abbrev cX7_take : ByteArray := prog_24_method_6_code
def yX7_take : MethodName := ⟨RX7, "take", "(IIJ)Z"⟩
def dkwX7_take_6 : List UInt8 := [22, 5, 9, 148, 156, 0, 7, 4, 167, 0, 4, 3, 172]
abbrev dktX7_take_6 : List UInt8 := dkwX7_take_6 ++ []
def dkwX7_take_5 : List UInt8 := [20, 0, 95, 127, 22, 7, 101, 97, 55, 5, 42, 180, 0, 37, 180, 0, 54, 27, 28, 96, 22, 5, 136, 79]
abbrev dktX7_take_5 : List UInt8 := dkwX7_take_5 ++ dktX7_take_6
def dkwX7_take_4 : List UInt8 := [55, 7, 132, 9, 1, 167, 255, 167, 22, 5, 42, 180, 0, 37, 180, 0, 54, 27, 28, 96, 46, 133]
abbrev dktX7_take_4 : List UInt8 := dkwX7_take_4 ++ dktX7_take_5
def dkwX7_take_3 : List UInt8 := [180, 0, 54, 27, 21, 9, 96, 22, 5, 136, 79, 22, 5, 16, 32, 123, 55, 5, 22, 7, 16, 32, 125]
abbrev dktX7_take_3 : List UInt8 := dkwX7_take_3 ++ dktX7_take_4
def dkwX7_take_2 : List UInt8 := [27, 21, 9, 96, 46, 133, 20, 0, 95, 127, 22, 7, 20, 0, 95, 127, 101, 97, 55, 5, 42, 180, 0, 37]
abbrev dktX7_take_2 : List UInt8 := dkwX7_take_2 ++ dktX7_take_3
def dkwX7_take_1 : List UInt8 := [180, 0, 54, 21, 9, 46, 133, 20, 0, 95, 127, 105, 97, 55, 7, 22, 5, 42, 180, 0, 37, 180, 0, 54]
abbrev dktX7_take_1 : List UInt8 := dkwX7_take_1 ++ dktX7_take_2
def dkwX7_take_0 : List UInt8 := [9, 55, 5, 9, 55, 7, 3, 54, 9, 21, 9, 28, 162, 0, 89, 22, 7, 33, 42, 180, 0, 34]
abbrev dktX7_take_0 : List UInt8 := dkwX7_take_0 ++ dktX7_take_1
theorem dksX7_take_0 : cX7_take.data.toList.drop 0 = dktX7_take_0 := by decide +kernel
theorem dksX7_take_1 : cX7_take.data.toList.drop 22 = dktX7_take_1 := dk_seg dksX7_take_0 22 rfl rfl
theorem dksX7_take_2 : cX7_take.data.toList.drop 46 = dktX7_take_2 := dk_seg dksX7_take_1 24 rfl rfl
theorem dksX7_take_3 : cX7_take.data.toList.drop 70 = dktX7_take_3 := dk_seg dksX7_take_2 24 rfl rfl
theorem dksX7_take_4 : cX7_take.data.toList.drop 93 = dktX7_take_4 := dk_seg dksX7_take_3 23 rfl rfl
theorem dksX7_take_5 : cX7_take.data.toList.drop 115 = dktX7_take_5 := dk_seg dksX7_take_4 22 rfl rfl
theorem dksX7_take_6 : cX7_take.data.toList.drop 139 = dktX7_take_6 := dk_seg dksX7_take_5 24 rfl rfl
theorem dX7_take_0 : decode cX7_take 0 = .ok (.lconst 0, 1) := dk_9 (dk_at dksX7_take_0 0 rfl rfl)
theorem dX7_take_1 : decode cX7_take 1 = .ok (.lstore 5, 2) := dk_55 5 (dk_at dksX7_take_0 1 rfl rfl)
theorem dX7_take_3 : decode cX7_take 3 = .ok (.lconst 0, 1) := dk_9 (dk_at dksX7_take_0 3 rfl rfl)
theorem dX7_take_4 : decode cX7_take 4 = .ok (.lstore 7, 2) := dk_55 7 (dk_at dksX7_take_0 4 rfl rfl)
theorem dX7_take_6 : decode cX7_take 6 = .ok (.iconst 0, 1) := dk_3 (dk_at dksX7_take_0 6 rfl rfl)
theorem dX7_take_7 : decode cX7_take 7 = .ok (.istore 9, 2) := dk_54 9 (dk_at dksX7_take_0 7 rfl rfl)
theorem dX7_take_9 : decode cX7_take 9 = .ok (.iload 9, 2) := dk_21 9 (dk_at dksX7_take_0 9 rfl rfl)
theorem dX7_take_11 : decode cX7_take 11 = .ok (.iload_n 2, 1) := dk_28 (dk_at dksX7_take_0 11 rfl rfl)
theorem dX7_take_12 : decode cX7_take 12 = .ok (.if_icmp .ge 89, 3) := dk_162 0 89 (dk_at dksX7_take_0 12 rfl rfl)
theorem dX7_take_15 : decode cX7_take 15 = .ok (.lload 7, 2) := dk_22 7 (dk_at dksX7_take_0 15 rfl rfl)
theorem dX7_take_17 : decode cX7_take 17 = .ok (.lload_n 3, 1) := dk_33 (dk_at dksX7_take_0 17 rfl rfl)
theorem dX7_take_18 : decode cX7_take 18 = .ok (.aload_n 0, 1) := dk_42 (dk_at dksX7_take_0 18 rfl rfl)
theorem dX7_take_19 : decode cX7_take 19 = .ok (.getfield 34, 3) := dk_180 0 34 (dk_at dksX7_take_0 19 rfl rfl)
theorem dX7_take_22 : decode cX7_take 22 = .ok (.getfield 54, 3) := dk_180 0 54 (dk_at dksX7_take_1 0 rfl rfl)
theorem dX7_take_25 : decode cX7_take 25 = .ok (.iload 9, 2) := dk_21 9 (dk_at dksX7_take_1 3 rfl rfl)
theorem dX7_take_27 : decode cX7_take 27 = .ok (.iaload, 1) := dk_46 (dk_at dksX7_take_1 5 rfl rfl)
theorem dX7_take_28 : decode cX7_take 28 = .ok (.i2l, 1) := dk_133 (dk_at dksX7_take_1 6 rfl rfl)
theorem dX7_take_29 : decode cX7_take 29 = .ok (.ldc2_w 95, 3) := dk_20 0 95 (dk_at dksX7_take_1 7 rfl rfl)
theorem dX7_take_32 : decode cX7_take 32 = .ok (.land, 1) := dk_127 (dk_at dksX7_take_1 10 rfl rfl)
theorem dX7_take_33 : decode cX7_take 33 = .ok (.lmul, 1) := dk_105 (dk_at dksX7_take_1 11 rfl rfl)
theorem dX7_take_34 : decode cX7_take 34 = .ok (.ladd, 1) := dk_97 (dk_at dksX7_take_1 12 rfl rfl)
theorem dX7_take_35 : decode cX7_take 35 = .ok (.lstore 7, 2) := dk_55 7 (dk_at dksX7_take_1 13 rfl rfl)
theorem dX7_take_37 : decode cX7_take 37 = .ok (.lload 5, 2) := dk_22 5 (dk_at dksX7_take_1 15 rfl rfl)
theorem dX7_take_39 : decode cX7_take 39 = .ok (.aload_n 0, 1) := dk_42 (dk_at dksX7_take_1 17 rfl rfl)
theorem dX7_take_40 : decode cX7_take 40 = .ok (.getfield 37, 3) := dk_180 0 37 (dk_at dksX7_take_1 18 rfl rfl)
theorem dX7_take_43 : decode cX7_take 43 = .ok (.getfield 54, 3) := dk_180 0 54 (dk_at dksX7_take_1 21 rfl rfl)
theorem dX7_take_46 : decode cX7_take 46 = .ok (.iload_n 1, 1) := dk_27 (dk_at dksX7_take_2 0 rfl rfl)
theorem dX7_take_47 : decode cX7_take 47 = .ok (.iload 9, 2) := dk_21 9 (dk_at dksX7_take_2 1 rfl rfl)
theorem dX7_take_49 : decode cX7_take 49 = .ok (.iadd, 1) := dk_96 (dk_at dksX7_take_2 3 rfl rfl)
theorem dX7_take_50 : decode cX7_take 50 = .ok (.iaload, 1) := dk_46 (dk_at dksX7_take_2 4 rfl rfl)
theorem dX7_take_51 : decode cX7_take 51 = .ok (.i2l, 1) := dk_133 (dk_at dksX7_take_2 5 rfl rfl)
theorem dX7_take_52 : decode cX7_take 52 = .ok (.ldc2_w 95, 3) := dk_20 0 95 (dk_at dksX7_take_2 6 rfl rfl)
theorem dX7_take_55 : decode cX7_take 55 = .ok (.land, 1) := dk_127 (dk_at dksX7_take_2 9 rfl rfl)
theorem dX7_take_56 : decode cX7_take 56 = .ok (.lload 7, 2) := dk_22 7 (dk_at dksX7_take_2 10 rfl rfl)
theorem dX7_take_58 : decode cX7_take 58 = .ok (.ldc2_w 95, 3) := dk_20 0 95 (dk_at dksX7_take_2 12 rfl rfl)
theorem dX7_take_61 : decode cX7_take 61 = .ok (.land, 1) := dk_127 (dk_at dksX7_take_2 15 rfl rfl)
theorem dX7_take_62 : decode cX7_take 62 = .ok (.lsub, 1) := dk_101 (dk_at dksX7_take_2 16 rfl rfl)
theorem dX7_take_63 : decode cX7_take 63 = .ok (.ladd, 1) := dk_97 (dk_at dksX7_take_2 17 rfl rfl)
theorem dX7_take_64 : decode cX7_take 64 = .ok (.lstore 5, 2) := dk_55 5 (dk_at dksX7_take_2 18 rfl rfl)
theorem dX7_take_66 : decode cX7_take 66 = .ok (.aload_n 0, 1) := dk_42 (dk_at dksX7_take_2 20 rfl rfl)
theorem dX7_take_67 : decode cX7_take 67 = .ok (.getfield 37, 3) := dk_180 0 37 (dk_at dksX7_take_2 21 rfl rfl)
theorem dX7_take_70 : decode cX7_take 70 = .ok (.getfield 54, 3) := dk_180 0 54 (dk_at dksX7_take_3 0 rfl rfl)
theorem dX7_take_73 : decode cX7_take 73 = .ok (.iload_n 1, 1) := dk_27 (dk_at dksX7_take_3 3 rfl rfl)
theorem dX7_take_74 : decode cX7_take 74 = .ok (.iload 9, 2) := dk_21 9 (dk_at dksX7_take_3 4 rfl rfl)
theorem dX7_take_76 : decode cX7_take 76 = .ok (.iadd, 1) := dk_96 (dk_at dksX7_take_3 6 rfl rfl)
theorem dX7_take_77 : decode cX7_take 77 = .ok (.lload 5, 2) := dk_22 5 (dk_at dksX7_take_3 7 rfl rfl)
theorem dX7_take_79 : decode cX7_take 79 = .ok (.l2i, 1) := dk_136 (dk_at dksX7_take_3 9 rfl rfl)
theorem dX7_take_80 : decode cX7_take 80 = .ok (.iastore, 1) := dk_79 (dk_at dksX7_take_3 10 rfl rfl)
theorem dX7_take_81 : decode cX7_take 81 = .ok (.lload 5, 2) := dk_22 5 (dk_at dksX7_take_3 11 rfl rfl)
theorem dX7_take_83 : decode cX7_take 83 = .ok (.bipush 32, 2) := dk_16 32 (dk_at dksX7_take_3 13 rfl rfl)
theorem dX7_take_85 : decode cX7_take 85 = .ok (.lshr, 1) := dk_123 (dk_at dksX7_take_3 15 rfl rfl)
theorem dX7_take_86 : decode cX7_take 86 = .ok (.lstore 5, 2) := dk_55 5 (dk_at dksX7_take_3 16 rfl rfl)
theorem dX7_take_88 : decode cX7_take 88 = .ok (.lload 7, 2) := dk_22 7 (dk_at dksX7_take_3 18 rfl rfl)
theorem dX7_take_90 : decode cX7_take 90 = .ok (.bipush 32, 2) := dk_16 32 (dk_at dksX7_take_3 20 rfl rfl)
theorem dX7_take_92 : decode cX7_take 92 = .ok (.lushr, 1) := dk_125 (dk_at dksX7_take_3 22 rfl rfl)
theorem dX7_take_93 : decode cX7_take 93 = .ok (.lstore 7, 2) := dk_55 7 (dk_at dksX7_take_4 0 rfl rfl)
theorem dX7_take_95 : decode cX7_take 95 = .ok (.iinc 9 1, 3) := dk_132 9 1 (dk_at dksX7_take_4 2 rfl rfl)
theorem dX7_take_98 : decode cX7_take 98 = .ok (.goto (-89), 3) := dk_167 255 167 (dk_at dksX7_take_4 5 rfl rfl)
theorem dX7_take_101 : decode cX7_take 101 = .ok (.lload 5, 2) := dk_22 5 (dk_at dksX7_take_4 8 rfl rfl)
theorem dX7_take_103 : decode cX7_take 103 = .ok (.aload_n 0, 1) := dk_42 (dk_at dksX7_take_4 10 rfl rfl)
theorem dX7_take_104 : decode cX7_take 104 = .ok (.getfield 37, 3) := dk_180 0 37 (dk_at dksX7_take_4 11 rfl rfl)
theorem dX7_take_107 : decode cX7_take 107 = .ok (.getfield 54, 3) := dk_180 0 54 (dk_at dksX7_take_4 14 rfl rfl)
theorem dX7_take_110 : decode cX7_take 110 = .ok (.iload_n 1, 1) := dk_27 (dk_at dksX7_take_4 17 rfl rfl)
theorem dX7_take_111 : decode cX7_take 111 = .ok (.iload_n 2, 1) := dk_28 (dk_at dksX7_take_4 18 rfl rfl)
theorem dX7_take_112 : decode cX7_take 112 = .ok (.iadd, 1) := dk_96 (dk_at dksX7_take_4 19 rfl rfl)
theorem dX7_take_113 : decode cX7_take 113 = .ok (.iaload, 1) := dk_46 (dk_at dksX7_take_4 20 rfl rfl)
theorem dX7_take_114 : decode cX7_take 114 = .ok (.i2l, 1) := dk_133 (dk_at dksX7_take_4 21 rfl rfl)
theorem dX7_take_115 : decode cX7_take 115 = .ok (.ldc2_w 95, 3) := dk_20 0 95 (dk_at dksX7_take_5 0 rfl rfl)
theorem dX7_take_118 : decode cX7_take 118 = .ok (.land, 1) := dk_127 (dk_at dksX7_take_5 3 rfl rfl)
theorem dX7_take_119 : decode cX7_take 119 = .ok (.lload 7, 2) := dk_22 7 (dk_at dksX7_take_5 4 rfl rfl)
theorem dX7_take_121 : decode cX7_take 121 = .ok (.lsub, 1) := dk_101 (dk_at dksX7_take_5 6 rfl rfl)
theorem dX7_take_122 : decode cX7_take 122 = .ok (.ladd, 1) := dk_97 (dk_at dksX7_take_5 7 rfl rfl)
theorem dX7_take_123 : decode cX7_take 123 = .ok (.lstore 5, 2) := dk_55 5 (dk_at dksX7_take_5 8 rfl rfl)
theorem dX7_take_125 : decode cX7_take 125 = .ok (.aload_n 0, 1) := dk_42 (dk_at dksX7_take_5 10 rfl rfl)
theorem dX7_take_126 : decode cX7_take 126 = .ok (.getfield 37, 3) := dk_180 0 37 (dk_at dksX7_take_5 11 rfl rfl)
theorem dX7_take_129 : decode cX7_take 129 = .ok (.getfield 54, 3) := dk_180 0 54 (dk_at dksX7_take_5 14 rfl rfl)
theorem dX7_take_132 : decode cX7_take 132 = .ok (.iload_n 1, 1) := dk_27 (dk_at dksX7_take_5 17 rfl rfl)
theorem dX7_take_133 : decode cX7_take 133 = .ok (.iload_n 2, 1) := dk_28 (dk_at dksX7_take_5 18 rfl rfl)
theorem dX7_take_134 : decode cX7_take 134 = .ok (.iadd, 1) := dk_96 (dk_at dksX7_take_5 19 rfl rfl)
theorem dX7_take_135 : decode cX7_take 135 = .ok (.lload 5, 2) := dk_22 5 (dk_at dksX7_take_5 20 rfl rfl)
theorem dX7_take_137 : decode cX7_take 137 = .ok (.l2i, 1) := dk_136 (dk_at dksX7_take_5 22 rfl rfl)
theorem dX7_take_138 : decode cX7_take 138 = .ok (.iastore, 1) := dk_79 (dk_at dksX7_take_5 23 rfl rfl)
theorem dX7_take_139 : decode cX7_take 139 = .ok (.lload 5, 2) := dk_22 5 (dk_at dksX7_take_6 0 rfl rfl)
theorem dX7_take_141 : decode cX7_take 141 = .ok (.lconst 0, 1) := dk_9 (dk_at dksX7_take_6 2 rfl rfl)
theorem dX7_take_142 : decode cX7_take 142 = .ok (.lcmp, 1) := dk_148 (dk_at dksX7_take_6 3 rfl rfl)
theorem dX7_take_143 : decode cX7_take 143 = .ok (.ifCond .ge 7, 3) := dk_156 0 7 (dk_at dksX7_take_6 4 rfl rfl)
theorem dX7_take_146 : decode cX7_take 146 = .ok (.iconst 1, 1) := dk_4 (dk_at dksX7_take_6 7 rfl rfl)
theorem dX7_take_147 : decode cX7_take 147 = .ok (.goto 4, 3) := dk_167 0 4 (dk_at dksX7_take_6 8 rfl rfl)
theorem dX7_take_150 : decode cX7_take 150 = .ok (.iconst 0, 1) := dk_3 (dk_at dksX7_take_6 11 rfl rfl)
theorem dX7_take_151 : decode cX7_take 151 = .ok (.ireturn, 1) := dk_172 (dk_at dksX7_take_6 12 rfl rfl)
abbrev cX7_giveBack : ByteArray := prog_24_method_7_code
def yX7_giveBack : MethodName := ⟨RX7, "giveBack", "(II)V"⟩
def dkwX7_giveBack_3 : List UInt8 := [42, 180, 0, 37, 180, 0, 54, 27, 28, 96, 92, 46, 33, 136, 96, 79, 177]
abbrev dktX7_giveBack_3 : List UInt8 := dkwX7_giveBack_3 ++ []
def dkwX7_giveBack_2 : List UInt8 := [180, 0, 37, 180, 0, 54, 27, 21, 5, 96, 33, 136, 79, 33, 16, 32, 125, 66, 132, 5, 1, 167, 255, 192]
abbrev dktX7_giveBack_2 : List UInt8 := dkwX7_giveBack_2 ++ dktX7_giveBack_3
def dkwX7_giveBack_1 : List UInt8 := [133, 20, 0, 95, 127, 42, 180, 0, 34, 180, 0, 54, 21, 5, 46, 133, 20, 0, 95, 127, 97, 97, 66, 42]
abbrev dktX7_giveBack_1 : List UInt8 := dkwX7_giveBack_1 ++ dktX7_giveBack_2
def dkwX7_giveBack_0 : List UInt8 := [9, 66, 3, 54, 5, 21, 5, 28, 162, 0, 64, 33, 42, 180, 0, 37, 180, 0, 54, 27, 21, 5, 96, 46]
abbrev dktX7_giveBack_0 : List UInt8 := dkwX7_giveBack_0 ++ dktX7_giveBack_1
theorem dksX7_giveBack_0 : cX7_giveBack.data.toList.drop 0 = dktX7_giveBack_0 := by decide +kernel
theorem dksX7_giveBack_1 : cX7_giveBack.data.toList.drop 24 = dktX7_giveBack_1 := dk_seg dksX7_giveBack_0 24 rfl rfl
theorem dksX7_giveBack_2 : cX7_giveBack.data.toList.drop 48 = dktX7_giveBack_2 := dk_seg dksX7_giveBack_1 24 rfl rfl
theorem dksX7_giveBack_3 : cX7_giveBack.data.toList.drop 72 = dktX7_giveBack_3 := dk_seg dksX7_giveBack_2 24 rfl rfl
theorem dX7_giveBack_0 : decode cX7_giveBack 0 = .ok (.lconst 0, 1) := dk_9 (dk_at dksX7_giveBack_0 0 rfl rfl)
theorem dX7_giveBack_1 : decode cX7_giveBack 1 = .ok (.lstore_n 3, 1) := dk_66 (dk_at dksX7_giveBack_0 1 rfl rfl)
theorem dX7_giveBack_2 : decode cX7_giveBack 2 = .ok (.iconst 0, 1) := dk_3 (dk_at dksX7_giveBack_0 2 rfl rfl)
theorem dX7_giveBack_3 : decode cX7_giveBack 3 = .ok (.istore 5, 2) := dk_54 5 (dk_at dksX7_giveBack_0 3 rfl rfl)
theorem dX7_giveBack_5 : decode cX7_giveBack 5 = .ok (.iload 5, 2) := dk_21 5 (dk_at dksX7_giveBack_0 5 rfl rfl)
theorem dX7_giveBack_7 : decode cX7_giveBack 7 = .ok (.iload_n 2, 1) := dk_28 (dk_at dksX7_giveBack_0 7 rfl rfl)
theorem dX7_giveBack_8 : decode cX7_giveBack 8 = .ok (.if_icmp .ge 64, 3) := dk_162 0 64 (dk_at dksX7_giveBack_0 8 rfl rfl)
theorem dX7_giveBack_11 : decode cX7_giveBack 11 = .ok (.lload_n 3, 1) := dk_33 (dk_at dksX7_giveBack_0 11 rfl rfl)
theorem dX7_giveBack_12 : decode cX7_giveBack 12 = .ok (.aload_n 0, 1) := dk_42 (dk_at dksX7_giveBack_0 12 rfl rfl)
theorem dX7_giveBack_13 : decode cX7_giveBack 13 = .ok (.getfield 37, 3) := dk_180 0 37 (dk_at dksX7_giveBack_0 13 rfl rfl)
theorem dX7_giveBack_16 : decode cX7_giveBack 16 = .ok (.getfield 54, 3) := dk_180 0 54 (dk_at dksX7_giveBack_0 16 rfl rfl)
theorem dX7_giveBack_19 : decode cX7_giveBack 19 = .ok (.iload_n 1, 1) := dk_27 (dk_at dksX7_giveBack_0 19 rfl rfl)
theorem dX7_giveBack_20 : decode cX7_giveBack 20 = .ok (.iload 5, 2) := dk_21 5 (dk_at dksX7_giveBack_0 20 rfl rfl)
theorem dX7_giveBack_22 : decode cX7_giveBack 22 = .ok (.iadd, 1) := dk_96 (dk_at dksX7_giveBack_0 22 rfl rfl)
theorem dX7_giveBack_23 : decode cX7_giveBack 23 = .ok (.iaload, 1) := dk_46 (dk_at dksX7_giveBack_0 23 rfl rfl)
theorem dX7_giveBack_24 : decode cX7_giveBack 24 = .ok (.i2l, 1) := dk_133 (dk_at dksX7_giveBack_1 0 rfl rfl)
theorem dX7_giveBack_25 : decode cX7_giveBack 25 = .ok (.ldc2_w 95, 3) := dk_20 0 95 (dk_at dksX7_giveBack_1 1 rfl rfl)
theorem dX7_giveBack_28 : decode cX7_giveBack 28 = .ok (.land, 1) := dk_127 (dk_at dksX7_giveBack_1 4 rfl rfl)
theorem dX7_giveBack_29 : decode cX7_giveBack 29 = .ok (.aload_n 0, 1) := dk_42 (dk_at dksX7_giveBack_1 5 rfl rfl)
theorem dX7_giveBack_30 : decode cX7_giveBack 30 = .ok (.getfield 34, 3) := dk_180 0 34 (dk_at dksX7_giveBack_1 6 rfl rfl)
theorem dX7_giveBack_33 : decode cX7_giveBack 33 = .ok (.getfield 54, 3) := dk_180 0 54 (dk_at dksX7_giveBack_1 9 rfl rfl)
theorem dX7_giveBack_36 : decode cX7_giveBack 36 = .ok (.iload 5, 2) := dk_21 5 (dk_at dksX7_giveBack_1 12 rfl rfl)
theorem dX7_giveBack_38 : decode cX7_giveBack 38 = .ok (.iaload, 1) := dk_46 (dk_at dksX7_giveBack_1 14 rfl rfl)
theorem dX7_giveBack_39 : decode cX7_giveBack 39 = .ok (.i2l, 1) := dk_133 (dk_at dksX7_giveBack_1 15 rfl rfl)
theorem dX7_giveBack_40 : decode cX7_giveBack 40 = .ok (.ldc2_w 95, 3) := dk_20 0 95 (dk_at dksX7_giveBack_1 16 rfl rfl)
theorem dX7_giveBack_43 : decode cX7_giveBack 43 = .ok (.land, 1) := dk_127 (dk_at dksX7_giveBack_1 19 rfl rfl)
theorem dX7_giveBack_44 : decode cX7_giveBack 44 = .ok (.ladd, 1) := dk_97 (dk_at dksX7_giveBack_1 20 rfl rfl)
theorem dX7_giveBack_45 : decode cX7_giveBack 45 = .ok (.ladd, 1) := dk_97 (dk_at dksX7_giveBack_1 21 rfl rfl)
theorem dX7_giveBack_46 : decode cX7_giveBack 46 = .ok (.lstore_n 3, 1) := dk_66 (dk_at dksX7_giveBack_1 22 rfl rfl)
theorem dX7_giveBack_47 : decode cX7_giveBack 47 = .ok (.aload_n 0, 1) := dk_42 (dk_at dksX7_giveBack_1 23 rfl rfl)
theorem dX7_giveBack_48 : decode cX7_giveBack 48 = .ok (.getfield 37, 3) := dk_180 0 37 (dk_at dksX7_giveBack_2 0 rfl rfl)
theorem dX7_giveBack_51 : decode cX7_giveBack 51 = .ok (.getfield 54, 3) := dk_180 0 54 (dk_at dksX7_giveBack_2 3 rfl rfl)
theorem dX7_giveBack_54 : decode cX7_giveBack 54 = .ok (.iload_n 1, 1) := dk_27 (dk_at dksX7_giveBack_2 6 rfl rfl)
theorem dX7_giveBack_55 : decode cX7_giveBack 55 = .ok (.iload 5, 2) := dk_21 5 (dk_at dksX7_giveBack_2 7 rfl rfl)
theorem dX7_giveBack_57 : decode cX7_giveBack 57 = .ok (.iadd, 1) := dk_96 (dk_at dksX7_giveBack_2 9 rfl rfl)
theorem dX7_giveBack_58 : decode cX7_giveBack 58 = .ok (.lload_n 3, 1) := dk_33 (dk_at dksX7_giveBack_2 10 rfl rfl)
theorem dX7_giveBack_59 : decode cX7_giveBack 59 = .ok (.l2i, 1) := dk_136 (dk_at dksX7_giveBack_2 11 rfl rfl)
theorem dX7_giveBack_60 : decode cX7_giveBack 60 = .ok (.iastore, 1) := dk_79 (dk_at dksX7_giveBack_2 12 rfl rfl)
theorem dX7_giveBack_61 : decode cX7_giveBack 61 = .ok (.lload_n 3, 1) := dk_33 (dk_at dksX7_giveBack_2 13 rfl rfl)
theorem dX7_giveBack_62 : decode cX7_giveBack 62 = .ok (.bipush 32, 2) := dk_16 32 (dk_at dksX7_giveBack_2 14 rfl rfl)
theorem dX7_giveBack_64 : decode cX7_giveBack 64 = .ok (.lushr, 1) := dk_125 (dk_at dksX7_giveBack_2 16 rfl rfl)
theorem dX7_giveBack_65 : decode cX7_giveBack 65 = .ok (.lstore_n 3, 1) := dk_66 (dk_at dksX7_giveBack_2 17 rfl rfl)
theorem dX7_giveBack_66 : decode cX7_giveBack 66 = .ok (.iinc 5 1, 3) := dk_132 5 1 (dk_at dksX7_giveBack_2 18 rfl rfl)
theorem dX7_giveBack_69 : decode cX7_giveBack 69 = .ok (.goto (-64), 3) := dk_167 255 192 (dk_at dksX7_giveBack_2 21 rfl rfl)
theorem dX7_giveBack_72 : decode cX7_giveBack 72 = .ok (.aload_n 0, 1) := dk_42 (dk_at dksX7_giveBack_3 0 rfl rfl)
theorem dX7_giveBack_73 : decode cX7_giveBack 73 = .ok (.getfield 37, 3) := dk_180 0 37 (dk_at dksX7_giveBack_3 1 rfl rfl)
theorem dX7_giveBack_76 : decode cX7_giveBack 76 = .ok (.getfield 54, 3) := dk_180 0 54 (dk_at dksX7_giveBack_3 4 rfl rfl)
theorem dX7_giveBack_79 : decode cX7_giveBack 79 = .ok (.iload_n 1, 1) := dk_27 (dk_at dksX7_giveBack_3 7 rfl rfl)
theorem dX7_giveBack_80 : decode cX7_giveBack 80 = .ok (.iload_n 2, 1) := dk_28 (dk_at dksX7_giveBack_3 8 rfl rfl)
theorem dX7_giveBack_81 : decode cX7_giveBack 81 = .ok (.iadd, 1) := dk_96 (dk_at dksX7_giveBack_3 9 rfl rfl)
theorem dX7_giveBack_82 : decode cX7_giveBack 82 = .ok (.dup2, 1) := dk_92 (dk_at dksX7_giveBack_3 10 rfl rfl)
theorem dX7_giveBack_83 : decode cX7_giveBack 83 = .ok (.iaload, 1) := dk_46 (dk_at dksX7_giveBack_3 11 rfl rfl)
theorem dX7_giveBack_84 : decode cX7_giveBack 84 = .ok (.lload_n 3, 1) := dk_33 (dk_at dksX7_giveBack_3 12 rfl rfl)
theorem dX7_giveBack_85 : decode cX7_giveBack 85 = .ok (.l2i, 1) := dk_136 (dk_at dksX7_giveBack_3 13 rfl rfl)
theorem dX7_giveBack_86 : decode cX7_giveBack 86 = .ok (.iadd, 1) := dk_96 (dk_at dksX7_giveBack_3 14 rfl rfl)
theorem dX7_giveBack_87 : decode cX7_giveBack 87 = .ok (.iastore, 1) := dk_79 (dk_at dksX7_giveBack_3 15 rfl rfl)
theorem dX7_giveBack_88 : decode cX7_giveBack 88 = .ok (.return_, 1) := dk_177 (dk_at dksX7_giveBack_3 16 rfl rfl)
abbrev cX7_mod : ByteArray := prog_24_method_9_code
def yX7_mod : MethodName := ⟨RX7, "mod", "(LLibraryDesk$Big;LLibraryDesk$Big;)V"⟩
def dkwX7_mod_1 : List UInt8 := [180, 0, 16, 180, 0, 62, 153, 0, 16, 42, 180, 0, 16, 42, 180, 0, 16, 44, 3, 182, 0, 124, 177]
abbrev dktX7_mod_1 : List UInt8 := dkwX7_mod_1 ++ []
def dkwX7_mod_0 : List UInt8 := [44, 182, 0, 118, 158, 0, 7, 4, 167, 0, 4, 3, 184, 0, 44, 42, 43, 44, 182, 0, 121, 42]
abbrev dktX7_mod_0 : List UInt8 := dkwX7_mod_0 ++ dktX7_mod_1
theorem dksX7_mod_0 : cX7_mod.data.toList.drop 0 = dktX7_mod_0 := by decide +kernel
theorem dksX7_mod_1 : cX7_mod.data.toList.drop 22 = dktX7_mod_1 := dk_seg dksX7_mod_0 22 rfl rfl
theorem dX7_mod_0 : decode cX7_mod 0 = .ok (.aload_n 2, 1) := dk_44 (dk_at dksX7_mod_0 0 rfl rfl)
theorem dX7_mod_1 : decode cX7_mod 1 = .ok (.invokevirtual 118, 3) := dk_182 0 118 (dk_at dksX7_mod_0 1 rfl rfl)
theorem dX7_mod_4 : decode cX7_mod 4 = .ok (.ifCond .le 7, 3) := dk_158 0 7 (dk_at dksX7_mod_0 4 rfl rfl)
theorem dX7_mod_7 : decode cX7_mod 7 = .ok (.iconst 1, 1) := dk_4 (dk_at dksX7_mod_0 7 rfl rfl)
theorem dX7_mod_8 : decode cX7_mod 8 = .ok (.goto 4, 3) := dk_167 0 4 (dk_at dksX7_mod_0 8 rfl rfl)
theorem dX7_mod_11 : decode cX7_mod 11 = .ok (.iconst 0, 1) := dk_3 (dk_at dksX7_mod_0 11 rfl rfl)
theorem dX7_mod_12 : decode cX7_mod 12 = .ok (.invokestatic 44, 3) := dk_184 0 44 (dk_at dksX7_mod_0 12 rfl rfl)
theorem dX7_mod_15 : decode cX7_mod 15 = .ok (.aload_n 0, 1) := dk_42 (dk_at dksX7_mod_0 15 rfl rfl)
theorem dX7_mod_16 : decode cX7_mod 16 = .ok (.aload_n 1, 1) := dk_43 (dk_at dksX7_mod_0 16 rfl rfl)
theorem dX7_mod_17 : decode cX7_mod 17 = .ok (.aload_n 2, 1) := dk_44 (dk_at dksX7_mod_0 17 rfl rfl)
theorem dX7_mod_18 : decode cX7_mod 18 = .ok (.invokevirtual 121, 3) := dk_182 0 121 (dk_at dksX7_mod_0 18 rfl rfl)
theorem dX7_mod_21 : decode cX7_mod 21 = .ok (.aload_n 0, 1) := dk_42 (dk_at dksX7_mod_0 21 rfl rfl)
theorem dX7_mod_22 : decode cX7_mod 22 = .ok (.getfield 16, 3) := dk_180 0 16 (dk_at dksX7_mod_1 0 rfl rfl)
theorem dX7_mod_25 : decode cX7_mod 25 = .ok (.getfield 62, 3) := dk_180 0 62 (dk_at dksX7_mod_1 3 rfl rfl)
theorem dX7_mod_28 : decode cX7_mod 28 = .ok (.ifCond .eq 16, 3) := dk_153 0 16 (dk_at dksX7_mod_1 6 rfl rfl)
theorem dX7_mod_31 : decode cX7_mod 31 = .ok (.aload_n 0, 1) := dk_42 (dk_at dksX7_mod_1 9 rfl rfl)
theorem dX7_mod_32 : decode cX7_mod 32 = .ok (.getfield 16, 3) := dk_180 0 16 (dk_at dksX7_mod_1 10 rfl rfl)
theorem dX7_mod_35 : decode cX7_mod 35 = .ok (.aload_n 0, 1) := dk_42 (dk_at dksX7_mod_1 13 rfl rfl)
theorem dX7_mod_36 : decode cX7_mod 36 = .ok (.getfield 16, 3) := dk_180 0 16 (dk_at dksX7_mod_1 14 rfl rfl)
theorem dX7_mod_39 : decode cX7_mod 39 = .ok (.aload_n 2, 1) := dk_44 (dk_at dksX7_mod_1 17 rfl rfl)
theorem dX7_mod_40 : decode cX7_mod 40 = .ok (.iconst 0, 1) := dk_3 (dk_at dksX7_mod_1 18 rfl rfl)
theorem dX7_mod_41 : decode cX7_mod 41 = .ok (.invokevirtual 124, 3) := dk_182 0 124 (dk_at dksX7_mod_1 19 rfl rfl)
theorem dX7_mod_44 : decode cX7_mod 44 = .ok (.return_, 1) := dk_177 (dk_at dksX7_mod_1 22 rfl rfl)
abbrev cX7_gcd : ByteArray := prog_24_method_10_code
def yX7_gcd : MethodName := ⟨RX7, "gcd", "(LLibraryDesk$Big;LLibraryDesk$Big;)V"⟩
def dkwX7_gcd_3 : List UInt8 := [180, 0, 16, 182, 0, 58, 167, 255, 212, 42, 180, 0, 31, 42, 180, 0, 19, 182, 0, 58, 177]
abbrev dktX7_gcd_3 : List UInt8 := dkwX7_gcd_3 ++ []
def dkwX7_gcd_2 : List UInt8 := [180, 0, 22, 182, 0, 121, 42, 180, 0, 19, 42, 180, 0, 22, 182, 0, 58, 42, 180, 0, 22, 42]
abbrev dktX7_gcd_2 : List UInt8 := dkwX7_gcd_2 ++ dktX7_gcd_3
def dkwX7_gcd_1 : List UInt8 := [42, 180, 0, 22, 3, 181, 0, 62, 42, 180, 0, 22, 182, 0, 40, 154, 0, 40, 42, 42, 180, 0, 19, 42]
abbrev dktX7_gcd_1 : List UInt8 := dkwX7_gcd_1 ++ dktX7_gcd_2
def dkwX7_gcd_0 : List UInt8 := [42, 180, 0, 19, 43, 182, 0, 58, 42, 180, 0, 22, 44, 182, 0, 58, 42, 180, 0, 19, 3, 181, 0, 62]
abbrev dktX7_gcd_0 : List UInt8 := dkwX7_gcd_0 ++ dktX7_gcd_1
theorem dksX7_gcd_0 : cX7_gcd.data.toList.drop 0 = dktX7_gcd_0 := by decide +kernel
theorem dksX7_gcd_1 : cX7_gcd.data.toList.drop 24 = dktX7_gcd_1 := dk_seg dksX7_gcd_0 24 rfl rfl
theorem dksX7_gcd_2 : cX7_gcd.data.toList.drop 48 = dktX7_gcd_2 := dk_seg dksX7_gcd_1 24 rfl rfl
theorem dksX7_gcd_3 : cX7_gcd.data.toList.drop 70 = dktX7_gcd_3 := dk_seg dksX7_gcd_2 22 rfl rfl
theorem dX7_gcd_0 : decode cX7_gcd 0 = .ok (.aload_n 0, 1) := dk_42 (dk_at dksX7_gcd_0 0 rfl rfl)
theorem dX7_gcd_1 : decode cX7_gcd 1 = .ok (.getfield 19, 3) := dk_180 0 19 (dk_at dksX7_gcd_0 1 rfl rfl)
theorem dX7_gcd_4 : decode cX7_gcd 4 = .ok (.aload_n 1, 1) := dk_43 (dk_at dksX7_gcd_0 4 rfl rfl)
theorem dX7_gcd_5 : decode cX7_gcd 5 = .ok (.invokevirtual 58, 3) := dk_182 0 58 (dk_at dksX7_gcd_0 5 rfl rfl)
theorem dX7_gcd_8 : decode cX7_gcd 8 = .ok (.aload_n 0, 1) := dk_42 (dk_at dksX7_gcd_0 8 rfl rfl)
theorem dX7_gcd_9 : decode cX7_gcd 9 = .ok (.getfield 22, 3) := dk_180 0 22 (dk_at dksX7_gcd_0 9 rfl rfl)
theorem dX7_gcd_12 : decode cX7_gcd 12 = .ok (.aload_n 2, 1) := dk_44 (dk_at dksX7_gcd_0 12 rfl rfl)
theorem dX7_gcd_13 : decode cX7_gcd 13 = .ok (.invokevirtual 58, 3) := dk_182 0 58 (dk_at dksX7_gcd_0 13 rfl rfl)
theorem dX7_gcd_16 : decode cX7_gcd 16 = .ok (.aload_n 0, 1) := dk_42 (dk_at dksX7_gcd_0 16 rfl rfl)
theorem dX7_gcd_17 : decode cX7_gcd 17 = .ok (.getfield 19, 3) := dk_180 0 19 (dk_at dksX7_gcd_0 17 rfl rfl)
theorem dX7_gcd_20 : decode cX7_gcd 20 = .ok (.iconst 0, 1) := dk_3 (dk_at dksX7_gcd_0 20 rfl rfl)
theorem dX7_gcd_21 : decode cX7_gcd 21 = .ok (.putfield 62, 3) := dk_181 0 62 (dk_at dksX7_gcd_0 21 rfl rfl)
theorem dX7_gcd_24 : decode cX7_gcd 24 = .ok (.aload_n 0, 1) := dk_42 (dk_at dksX7_gcd_1 0 rfl rfl)
theorem dX7_gcd_25 : decode cX7_gcd 25 = .ok (.getfield 22, 3) := dk_180 0 22 (dk_at dksX7_gcd_1 1 rfl rfl)
theorem dX7_gcd_28 : decode cX7_gcd 28 = .ok (.iconst 0, 1) := dk_3 (dk_at dksX7_gcd_1 4 rfl rfl)
theorem dX7_gcd_29 : decode cX7_gcd 29 = .ok (.putfield 62, 3) := dk_181 0 62 (dk_at dksX7_gcd_1 5 rfl rfl)
theorem dX7_gcd_32 : decode cX7_gcd 32 = .ok (.aload_n 0, 1) := dk_42 (dk_at dksX7_gcd_1 8 rfl rfl)
theorem dX7_gcd_33 : decode cX7_gcd 33 = .ok (.getfield 22, 3) := dk_180 0 22 (dk_at dksX7_gcd_1 9 rfl rfl)
theorem dX7_gcd_36 : decode cX7_gcd 36 = .ok (.invokevirtual 40, 3) := dk_182 0 40 (dk_at dksX7_gcd_1 12 rfl rfl)
theorem dX7_gcd_39 : decode cX7_gcd 39 = .ok (.ifCond .ne 40, 3) := dk_154 0 40 (dk_at dksX7_gcd_1 15 rfl rfl)
theorem dX7_gcd_42 : decode cX7_gcd 42 = .ok (.aload_n 0, 1) := dk_42 (dk_at dksX7_gcd_1 18 rfl rfl)
theorem dX7_gcd_43 : decode cX7_gcd 43 = .ok (.aload_n 0, 1) := dk_42 (dk_at dksX7_gcd_1 19 rfl rfl)
theorem dX7_gcd_44 : decode cX7_gcd 44 = .ok (.getfield 19, 3) := dk_180 0 19 (dk_at dksX7_gcd_1 20 rfl rfl)
theorem dX7_gcd_47 : decode cX7_gcd 47 = .ok (.aload_n 0, 1) := dk_42 (dk_at dksX7_gcd_1 23 rfl rfl)
theorem dX7_gcd_48 : decode cX7_gcd 48 = .ok (.getfield 22, 3) := dk_180 0 22 (dk_at dksX7_gcd_2 0 rfl rfl)
theorem dX7_gcd_51 : decode cX7_gcd 51 = .ok (.invokevirtual 121, 3) := dk_182 0 121 (dk_at dksX7_gcd_2 3 rfl rfl)
theorem dX7_gcd_54 : decode cX7_gcd 54 = .ok (.aload_n 0, 1) := dk_42 (dk_at dksX7_gcd_2 6 rfl rfl)
theorem dX7_gcd_55 : decode cX7_gcd 55 = .ok (.getfield 19, 3) := dk_180 0 19 (dk_at dksX7_gcd_2 7 rfl rfl)
theorem dX7_gcd_58 : decode cX7_gcd 58 = .ok (.aload_n 0, 1) := dk_42 (dk_at dksX7_gcd_2 10 rfl rfl)
theorem dX7_gcd_59 : decode cX7_gcd 59 = .ok (.getfield 22, 3) := dk_180 0 22 (dk_at dksX7_gcd_2 11 rfl rfl)
theorem dX7_gcd_62 : decode cX7_gcd 62 = .ok (.invokevirtual 58, 3) := dk_182 0 58 (dk_at dksX7_gcd_2 14 rfl rfl)
theorem dX7_gcd_65 : decode cX7_gcd 65 = .ok (.aload_n 0, 1) := dk_42 (dk_at dksX7_gcd_2 17 rfl rfl)
theorem dX7_gcd_66 : decode cX7_gcd 66 = .ok (.getfield 22, 3) := dk_180 0 22 (dk_at dksX7_gcd_2 18 rfl rfl)
theorem dX7_gcd_69 : decode cX7_gcd 69 = .ok (.aload_n 0, 1) := dk_42 (dk_at dksX7_gcd_2 21 rfl rfl)
theorem dX7_gcd_70 : decode cX7_gcd 70 = .ok (.getfield 16, 3) := dk_180 0 16 (dk_at dksX7_gcd_3 0 rfl rfl)
theorem dX7_gcd_73 : decode cX7_gcd 73 = .ok (.invokevirtual 58, 3) := dk_182 0 58 (dk_at dksX7_gcd_3 3 rfl rfl)
theorem dX7_gcd_76 : decode cX7_gcd 76 = .ok (.goto (-44), 3) := dk_167 255 212 (dk_at dksX7_gcd_3 6 rfl rfl)
theorem dX7_gcd_79 : decode cX7_gcd 79 = .ok (.aload_n 0, 1) := dk_42 (dk_at dksX7_gcd_3 9 rfl rfl)
theorem dX7_gcd_80 : decode cX7_gcd 80 = .ok (.getfield 31, 3) := dk_180 0 31 (dk_at dksX7_gcd_3 10 rfl rfl)
theorem dX7_gcd_83 : decode cX7_gcd 83 = .ok (.aload_n 0, 1) := dk_42 (dk_at dksX7_gcd_3 13 rfl rfl)
theorem dX7_gcd_84 : decode cX7_gcd 84 = .ok (.getfield 19, 3) := dk_180 0 19 (dk_at dksX7_gcd_3 14 rfl rfl)
theorem dX7_gcd_87 : decode cX7_gcd 87 = .ok (.invokevirtual 58, 3) := dk_182 0 58 (dk_at dksX7_gcd_3 17 rfl rfl)
theorem dX7_gcd_90 : decode cX7_gcd 90 = .ok (.return_, 1) := dk_177 (dk_at dksX7_gcd_3 20 rfl rfl)
abbrev cX7_small : ByteArray := prog_24_method_11_code
def yX7_small : MethodName := ⟨RX7, "small", "(LLibraryDesk$Big;II)I"⟩
def dkwX7_small_3 : List UInt8 := [161, 0, 12, 29, 28, 163, 0, 7, 4, 167, 0, 4, 3, 184, 0, 44, 29, 172]
abbrev dktX7_small_3 : List UInt8 := dkwX7_small_3 ++ []
def dkwX7_small_2 : List UInt8 := [153, 0, 13, 42, 180, 0, 54, 3, 46, 116, 167, 0, 9, 42, 180, 0, 54, 3, 46, 62, 29, 27]
abbrev dktX7_small_2 : List UInt8 := dkwX7_small_2 ++ dktX7_small_3
def dkwX7_small_1 : List UInt8 := [4, 167, 0, 4, 3, 184, 0, 44, 42, 182, 0, 40, 153, 0, 7, 3, 167, 0, 26, 42, 180, 0, 62]
abbrev dktX7_small_1 : List UInt8 := dkwX7_small_1 ++ dktX7_small_2
def dkwX7_small_0 : List UInt8 := [42, 180, 0, 50, 4, 163, 0, 12, 42, 180, 0, 54, 3, 46, 156, 0, 10, 42, 182, 0, 40, 153, 0, 7]
abbrev dktX7_small_0 : List UInt8 := dkwX7_small_0 ++ dktX7_small_1
theorem dksX7_small_0 : cX7_small.data.toList.drop 0 = dktX7_small_0 := by decide +kernel
theorem dksX7_small_1 : cX7_small.data.toList.drop 24 = dktX7_small_1 := dk_seg dksX7_small_0 24 rfl rfl
theorem dksX7_small_2 : cX7_small.data.toList.drop 47 = dktX7_small_2 := dk_seg dksX7_small_1 23 rfl rfl
theorem dksX7_small_3 : cX7_small.data.toList.drop 69 = dktX7_small_3 := dk_seg dksX7_small_2 22 rfl rfl
theorem dX7_small_0 : decode cX7_small 0 = .ok (.aload_n 0, 1) := dk_42 (dk_at dksX7_small_0 0 rfl rfl)
theorem dX7_small_1 : decode cX7_small 1 = .ok (.getfield 50, 3) := dk_180 0 50 (dk_at dksX7_small_0 1 rfl rfl)
theorem dX7_small_4 : decode cX7_small 4 = .ok (.iconst 1, 1) := dk_4 (dk_at dksX7_small_0 4 rfl rfl)
theorem dX7_small_5 : decode cX7_small 5 = .ok (.if_icmp .gt 12, 3) := dk_163 0 12 (dk_at dksX7_small_0 5 rfl rfl)
theorem dX7_small_8 : decode cX7_small 8 = .ok (.aload_n 0, 1) := dk_42 (dk_at dksX7_small_0 8 rfl rfl)
theorem dX7_small_9 : decode cX7_small 9 = .ok (.getfield 54, 3) := dk_180 0 54 (dk_at dksX7_small_0 9 rfl rfl)
theorem dX7_small_12 : decode cX7_small 12 = .ok (.iconst 0, 1) := dk_3 (dk_at dksX7_small_0 12 rfl rfl)
theorem dX7_small_13 : decode cX7_small 13 = .ok (.iaload, 1) := dk_46 (dk_at dksX7_small_0 13 rfl rfl)
theorem dX7_small_14 : decode cX7_small 14 = .ok (.ifCond .ge 10, 3) := dk_156 0 10 (dk_at dksX7_small_0 14 rfl rfl)
theorem dX7_small_17 : decode cX7_small 17 = .ok (.aload_n 0, 1) := dk_42 (dk_at dksX7_small_0 17 rfl rfl)
theorem dX7_small_18 : decode cX7_small 18 = .ok (.invokevirtual 40, 3) := dk_182 0 40 (dk_at dksX7_small_0 18 rfl rfl)
theorem dX7_small_21 : decode cX7_small 21 = .ok (.ifCond .eq 7, 3) := dk_153 0 7 (dk_at dksX7_small_0 21 rfl rfl)
theorem dX7_small_24 : decode cX7_small 24 = .ok (.iconst 1, 1) := dk_4 (dk_at dksX7_small_1 0 rfl rfl)
theorem dX7_small_25 : decode cX7_small 25 = .ok (.goto 4, 3) := dk_167 0 4 (dk_at dksX7_small_1 1 rfl rfl)
theorem dX7_small_28 : decode cX7_small 28 = .ok (.iconst 0, 1) := dk_3 (dk_at dksX7_small_1 4 rfl rfl)
theorem dX7_small_29 : decode cX7_small 29 = .ok (.invokestatic 44, 3) := dk_184 0 44 (dk_at dksX7_small_1 5 rfl rfl)
theorem dX7_small_32 : decode cX7_small 32 = .ok (.aload_n 0, 1) := dk_42 (dk_at dksX7_small_1 8 rfl rfl)
theorem dX7_small_33 : decode cX7_small 33 = .ok (.invokevirtual 40, 3) := dk_182 0 40 (dk_at dksX7_small_1 9 rfl rfl)
theorem dX7_small_36 : decode cX7_small 36 = .ok (.ifCond .eq 7, 3) := dk_153 0 7 (dk_at dksX7_small_1 12 rfl rfl)
theorem dX7_small_39 : decode cX7_small 39 = .ok (.iconst 0, 1) := dk_3 (dk_at dksX7_small_1 15 rfl rfl)
theorem dX7_small_40 : decode cX7_small 40 = .ok (.goto 26, 3) := dk_167 0 26 (dk_at dksX7_small_1 16 rfl rfl)
theorem dX7_small_43 : decode cX7_small 43 = .ok (.aload_n 0, 1) := dk_42 (dk_at dksX7_small_1 19 rfl rfl)
theorem dX7_small_44 : decode cX7_small 44 = .ok (.getfield 62, 3) := dk_180 0 62 (dk_at dksX7_small_1 20 rfl rfl)
theorem dX7_small_47 : decode cX7_small 47 = .ok (.ifCond .eq 13, 3) := dk_153 0 13 (dk_at dksX7_small_2 0 rfl rfl)
theorem dX7_small_50 : decode cX7_small 50 = .ok (.aload_n 0, 1) := dk_42 (dk_at dksX7_small_2 3 rfl rfl)
theorem dX7_small_51 : decode cX7_small 51 = .ok (.getfield 54, 3) := dk_180 0 54 (dk_at dksX7_small_2 4 rfl rfl)
theorem dX7_small_54 : decode cX7_small 54 = .ok (.iconst 0, 1) := dk_3 (dk_at dksX7_small_2 7 rfl rfl)
theorem dX7_small_55 : decode cX7_small 55 = .ok (.iaload, 1) := dk_46 (dk_at dksX7_small_2 8 rfl rfl)
theorem dX7_small_56 : decode cX7_small 56 = .ok (.ineg, 1) := dk_116 (dk_at dksX7_small_2 9 rfl rfl)
theorem dX7_small_57 : decode cX7_small 57 = .ok (.goto 9, 3) := dk_167 0 9 (dk_at dksX7_small_2 10 rfl rfl)
theorem dX7_small_60 : decode cX7_small 60 = .ok (.aload_n 0, 1) := dk_42 (dk_at dksX7_small_2 13 rfl rfl)
theorem dX7_small_61 : decode cX7_small 61 = .ok (.getfield 54, 3) := dk_180 0 54 (dk_at dksX7_small_2 14 rfl rfl)
theorem dX7_small_64 : decode cX7_small 64 = .ok (.iconst 0, 1) := dk_3 (dk_at dksX7_small_2 17 rfl rfl)
theorem dX7_small_65 : decode cX7_small 65 = .ok (.iaload, 1) := dk_46 (dk_at dksX7_small_2 18 rfl rfl)
theorem dX7_small_66 : decode cX7_small 66 = .ok (.istore_n 3, 1) := dk_62 (dk_at dksX7_small_2 19 rfl rfl)
theorem dX7_small_67 : decode cX7_small 67 = .ok (.iload_n 3, 1) := dk_29 (dk_at dksX7_small_2 20 rfl rfl)
theorem dX7_small_68 : decode cX7_small 68 = .ok (.iload_n 1, 1) := dk_27 (dk_at dksX7_small_2 21 rfl rfl)
theorem dX7_small_69 : decode cX7_small 69 = .ok (.if_icmp .lt 12, 3) := dk_161 0 12 (dk_at dksX7_small_3 0 rfl rfl)
theorem dX7_small_72 : decode cX7_small 72 = .ok (.iload_n 3, 1) := dk_29 (dk_at dksX7_small_3 3 rfl rfl)
theorem dX7_small_73 : decode cX7_small 73 = .ok (.iload_n 2, 1) := dk_28 (dk_at dksX7_small_3 4 rfl rfl)
theorem dX7_small_74 : decode cX7_small 74 = .ok (.if_icmp .gt 7, 3) := dk_163 0 7 (dk_at dksX7_small_3 5 rfl rfl)
theorem dX7_small_77 : decode cX7_small 77 = .ok (.iconst 1, 1) := dk_4 (dk_at dksX7_small_3 8 rfl rfl)
theorem dX7_small_78 : decode cX7_small 78 = .ok (.goto 4, 3) := dk_167 0 4 (dk_at dksX7_small_3 9 rfl rfl)
theorem dX7_small_81 : decode cX7_small 81 = .ok (.iconst 0, 1) := dk_3 (dk_at dksX7_small_3 12 rfl rfl)
theorem dX7_small_82 : decode cX7_small 82 = .ok (.invokestatic 44, 3) := dk_184 0 44 (dk_at dksX7_small_3 13 rfl rfl)
theorem dX7_small_85 : decode cX7_small 85 = .ok (.iload_n 3, 1) := dk_29 (dk_at dksX7_small_3 16 rfl rfl)
theorem dX7_small_86 : decode cX7_small 86 = .ok (.ireturn, 1) := dk_172 (dk_at dksX7_small_3 17 rfl rfl)
abbrev cX7_power : ByteArray := prog_24_method_12_code
def yX7_power : MethodName := ⟨RX7, "powe\x72", "(LLibraryDesk$Big;I)V"⟩
def dkwX7_power_4 : List UInt8 := [180, 0, 22, 182, 0, 58, 29, 4, 122, 62, 167, 255, 171, 177]
abbrev dktX7_power_4 : List UInt8 := dkwX7_power_4 ++ []
def dkwX7_power_3 : List UInt8 := [180, 0, 19, 42, 180, 0, 19, 182, 0, 128, 42, 180, 0, 22, 184, 0, 131, 42, 180, 0, 19, 42]
abbrev dktX7_power_3 : List UInt8 := dkwX7_power_3 ++ dktX7_power_4
def dkwX7_power_2 : List UInt8 := [184, 0, 131, 42, 180, 0, 31, 42, 180, 0, 22, 182, 0, 58, 29, 4, 164, 0, 36, 42, 180, 0, 22, 42]
abbrev dktX7_power_2 : List UInt8 := dkwX7_power_2 ++ dktX7_power_3
def dkwX7_power_1 : List UInt8 := [126, 153, 0, 36, 42, 180, 0, 22, 42, 180, 0, 31, 42, 180, 0, 19, 182, 0, 128, 42, 180, 0, 22]
abbrev dktX7_power_1 : List UInt8 := dkwX7_power_1 ++ dktX7_power_2
def dkwX7_power_0 : List UInt8 := [42, 180, 0, 31, 10, 182, 0, 70, 42, 180, 0, 19, 43, 182, 0, 58, 28, 62, 29, 158, 0, 87, 29, 4]
abbrev dktX7_power_0 : List UInt8 := dkwX7_power_0 ++ dktX7_power_1
theorem dksX7_power_0 : cX7_power.data.toList.drop 0 = dktX7_power_0 := by decide +kernel
theorem dksX7_power_1 : cX7_power.data.toList.drop 24 = dktX7_power_1 := dk_seg dksX7_power_0 24 rfl rfl
theorem dksX7_power_2 : cX7_power.data.toList.drop 47 = dktX7_power_2 := dk_seg dksX7_power_1 23 rfl rfl
theorem dksX7_power_3 : cX7_power.data.toList.drop 71 = dktX7_power_3 := dk_seg dksX7_power_2 24 rfl rfl
theorem dksX7_power_4 : cX7_power.data.toList.drop 93 = dktX7_power_4 := dk_seg dksX7_power_3 22 rfl rfl
theorem dX7_power_0 : decode cX7_power 0 = .ok (.aload_n 0, 1) := dk_42 (dk_at dksX7_power_0 0 rfl rfl)
theorem dX7_power_1 : decode cX7_power 1 = .ok (.getfield 31, 3) := dk_180 0 31 (dk_at dksX7_power_0 1 rfl rfl)
theorem dX7_power_4 : decode cX7_power 4 = .ok (.lconst 1, 1) := dk_10 (dk_at dksX7_power_0 4 rfl rfl)
theorem dX7_power_5 : decode cX7_power 5 = .ok (.invokevirtual 70, 3) := dk_182 0 70 (dk_at dksX7_power_0 5 rfl rfl)
theorem dX7_power_8 : decode cX7_power 8 = .ok (.aload_n 0, 1) := dk_42 (dk_at dksX7_power_0 8 rfl rfl)
theorem dX7_power_9 : decode cX7_power 9 = .ok (.getfield 19, 3) := dk_180 0 19 (dk_at dksX7_power_0 9 rfl rfl)
theorem dX7_power_12 : decode cX7_power 12 = .ok (.aload_n 1, 1) := dk_43 (dk_at dksX7_power_0 12 rfl rfl)
theorem dX7_power_13 : decode cX7_power 13 = .ok (.invokevirtual 58, 3) := dk_182 0 58 (dk_at dksX7_power_0 13 rfl rfl)
theorem dX7_power_16 : decode cX7_power 16 = .ok (.iload_n 2, 1) := dk_28 (dk_at dksX7_power_0 16 rfl rfl)
theorem dX7_power_17 : decode cX7_power 17 = .ok (.istore_n 3, 1) := dk_62 (dk_at dksX7_power_0 17 rfl rfl)
theorem dX7_power_18 : decode cX7_power 18 = .ok (.iload_n 3, 1) := dk_29 (dk_at dksX7_power_0 18 rfl rfl)
theorem dX7_power_19 : decode cX7_power 19 = .ok (.ifCond .le 87, 3) := dk_158 0 87 (dk_at dksX7_power_0 19 rfl rfl)
theorem dX7_power_22 : decode cX7_power 22 = .ok (.iload_n 3, 1) := dk_29 (dk_at dksX7_power_0 22 rfl rfl)
theorem dX7_power_23 : decode cX7_power 23 = .ok (.iconst 1, 1) := dk_4 (dk_at dksX7_power_0 23 rfl rfl)
theorem dX7_power_24 : decode cX7_power 24 = .ok (.iand, 1) := dk_126 (dk_at dksX7_power_1 0 rfl rfl)
theorem dX7_power_25 : decode cX7_power 25 = .ok (.ifCond .eq 36, 3) := dk_153 0 36 (dk_at dksX7_power_1 1 rfl rfl)
theorem dX7_power_28 : decode cX7_power 28 = .ok (.aload_n 0, 1) := dk_42 (dk_at dksX7_power_1 4 rfl rfl)
theorem dX7_power_29 : decode cX7_power 29 = .ok (.getfield 22, 3) := dk_180 0 22 (dk_at dksX7_power_1 5 rfl rfl)
theorem dX7_power_32 : decode cX7_power 32 = .ok (.aload_n 0, 1) := dk_42 (dk_at dksX7_power_1 8 rfl rfl)
theorem dX7_power_33 : decode cX7_power 33 = .ok (.getfield 31, 3) := dk_180 0 31 (dk_at dksX7_power_1 9 rfl rfl)
theorem dX7_power_36 : decode cX7_power 36 = .ok (.aload_n 0, 1) := dk_42 (dk_at dksX7_power_1 12 rfl rfl)
theorem dX7_power_37 : decode cX7_power 37 = .ok (.getfield 19, 3) := dk_180 0 19 (dk_at dksX7_power_1 13 rfl rfl)
theorem dX7_power_40 : decode cX7_power 40 = .ok (.invokevirtual 128, 3) := dk_182 0 128 (dk_at dksX7_power_1 16 rfl rfl)
theorem dX7_power_43 : decode cX7_power 43 = .ok (.aload_n 0, 1) := dk_42 (dk_at dksX7_power_1 19 rfl rfl)
theorem dX7_power_44 : decode cX7_power 44 = .ok (.getfield 22, 3) := dk_180 0 22 (dk_at dksX7_power_1 20 rfl rfl)
theorem dX7_power_47 : decode cX7_power 47 = .ok (.invokestatic 131, 3) := dk_184 0 131 (dk_at dksX7_power_2 0 rfl rfl)
theorem dX7_power_50 : decode cX7_power 50 = .ok (.aload_n 0, 1) := dk_42 (dk_at dksX7_power_2 3 rfl rfl)
theorem dX7_power_51 : decode cX7_power 51 = .ok (.getfield 31, 3) := dk_180 0 31 (dk_at dksX7_power_2 4 rfl rfl)
theorem dX7_power_54 : decode cX7_power 54 = .ok (.aload_n 0, 1) := dk_42 (dk_at dksX7_power_2 7 rfl rfl)
theorem dX7_power_55 : decode cX7_power 55 = .ok (.getfield 22, 3) := dk_180 0 22 (dk_at dksX7_power_2 8 rfl rfl)
theorem dX7_power_58 : decode cX7_power 58 = .ok (.invokevirtual 58, 3) := dk_182 0 58 (dk_at dksX7_power_2 11 rfl rfl)
theorem dX7_power_61 : decode cX7_power 61 = .ok (.iload_n 3, 1) := dk_29 (dk_at dksX7_power_2 14 rfl rfl)
theorem dX7_power_62 : decode cX7_power 62 = .ok (.iconst 1, 1) := dk_4 (dk_at dksX7_power_2 15 rfl rfl)
theorem dX7_power_63 : decode cX7_power 63 = .ok (.if_icmp .le 36, 3) := dk_164 0 36 (dk_at dksX7_power_2 16 rfl rfl)
theorem dX7_power_66 : decode cX7_power 66 = .ok (.aload_n 0, 1) := dk_42 (dk_at dksX7_power_2 19 rfl rfl)
theorem dX7_power_67 : decode cX7_power 67 = .ok (.getfield 22, 3) := dk_180 0 22 (dk_at dksX7_power_2 20 rfl rfl)
theorem dX7_power_70 : decode cX7_power 70 = .ok (.aload_n 0, 1) := dk_42 (dk_at dksX7_power_2 23 rfl rfl)
theorem dX7_power_71 : decode cX7_power 71 = .ok (.getfield 19, 3) := dk_180 0 19 (dk_at dksX7_power_3 0 rfl rfl)
theorem dX7_power_74 : decode cX7_power 74 = .ok (.aload_n 0, 1) := dk_42 (dk_at dksX7_power_3 3 rfl rfl)
theorem dX7_power_75 : decode cX7_power 75 = .ok (.getfield 19, 3) := dk_180 0 19 (dk_at dksX7_power_3 4 rfl rfl)
theorem dX7_power_78 : decode cX7_power 78 = .ok (.invokevirtual 128, 3) := dk_182 0 128 (dk_at dksX7_power_3 7 rfl rfl)
theorem dX7_power_81 : decode cX7_power 81 = .ok (.aload_n 0, 1) := dk_42 (dk_at dksX7_power_3 10 rfl rfl)
theorem dX7_power_82 : decode cX7_power 82 = .ok (.getfield 22, 3) := dk_180 0 22 (dk_at dksX7_power_3 11 rfl rfl)
theorem dX7_power_85 : decode cX7_power 85 = .ok (.invokestatic 131, 3) := dk_184 0 131 (dk_at dksX7_power_3 14 rfl rfl)
theorem dX7_power_88 : decode cX7_power 88 = .ok (.aload_n 0, 1) := dk_42 (dk_at dksX7_power_3 17 rfl rfl)
theorem dX7_power_89 : decode cX7_power 89 = .ok (.getfield 19, 3) := dk_180 0 19 (dk_at dksX7_power_3 18 rfl rfl)
theorem dX7_power_92 : decode cX7_power 92 = .ok (.aload_n 0, 1) := dk_42 (dk_at dksX7_power_3 21 rfl rfl)
theorem dX7_power_93 : decode cX7_power 93 = .ok (.getfield 22, 3) := dk_180 0 22 (dk_at dksX7_power_4 0 rfl rfl)
theorem dX7_power_96 : decode cX7_power 96 = .ok (.invokevirtual 58, 3) := dk_182 0 58 (dk_at dksX7_power_4 3 rfl rfl)
theorem dX7_power_99 : decode cX7_power 99 = .ok (.iload_n 3, 1) := dk_29 (dk_at dksX7_power_4 6 rfl rfl)
theorem dX7_power_100 : decode cX7_power 100 = .ok (.iconst 1, 1) := dk_4 (dk_at dksX7_power_4 7 rfl rfl)
theorem dX7_power_101 : decode cX7_power 101 = .ok (.ishr, 1) := dk_122 (dk_at dksX7_power_4 8 rfl rfl)
theorem dX7_power_102 : decode cX7_power 102 = .ok (.istore_n 3, 1) := dk_62 (dk_at dksX7_power_4 9 rfl rfl)
theorem dX7_power_103 : decode cX7_power 103 = .ok (.goto (-85), 3) := dk_167 255 171 (dk_at dksX7_power_4 10 rfl rfl)
theorem dX7_power_106 : decode cX7_power 106 = .ok (.return_, 1) := dk_177 (dk_at dksX7_power_4 13 rfl rfl)
abbrev cX7_check : ByteArray := prog_24_method_8_code
def yX7_check : MethodName := ⟨RX7, "check", "(LLibraryDesk$Big;)V"⟩
def dkwX7_check_0 : List UInt8 := [42, 182, 0, 87, 17, 8, 0, 163, 0, 7, 4, 167, 0, 4, 3, 184, 0, 44, 177]
abbrev dktX7_check_0 : List UInt8 := dkwX7_check_0 ++ []
theorem dksX7_check_0 : cX7_check.data.toList.drop 0 = dktX7_check_0 := by decide +kernel
theorem dX7_check_0 : decode cX7_check 0 = .ok (.aload_n 0, 1) := dk_42 (dk_at dksX7_check_0 0 rfl rfl)
theorem dX7_check_1 : decode cX7_check 1 = .ok (.invokevirtual 87, 3) := dk_182 0 87 (dk_at dksX7_check_0 1 rfl rfl)
theorem dX7_check_4 : decode cX7_check 4 = .ok (.sipush 2048, 3) := dk_17 8 0 (dk_at dksX7_check_0 4 rfl rfl)
theorem dX7_check_7 : decode cX7_check 7 = .ok (.if_icmp .gt 7, 3) := dk_163 0 7 (dk_at dksX7_check_0 7 rfl rfl)
theorem dX7_check_10 : decode cX7_check 10 = .ok (.iconst 1, 1) := dk_4 (dk_at dksX7_check_0 10 rfl rfl)
theorem dX7_check_11 : decode cX7_check 11 = .ok (.goto 4, 3) := dk_167 0 4 (dk_at dksX7_check_0 11 rfl rfl)
theorem dX7_check_14 : decode cX7_check 14 = .ok (.iconst 0, 1) := dk_3 (dk_at dksX7_check_0 14 rfl rfl)
theorem dX7_check_15 : decode cX7_check 15 = .ok (.invokestatic 44, 3) := dk_184 0 44 (dk_at dksX7_check_0 15 rfl rfl)
theorem dX7_check_18 : decode cX7_check 18 = .ok (.return_, 1) := dk_177 (dk_at dksX7_check_0 18 rfl rfl)
abbrev cX7_powerMod : ByteArray := prog_24_method_13_code
def yX7_powerMod : MethodName := ⟨RX7, "powerMod", "(LLibraryDesk$Big;LLibraryDesk$Big;LLibraryDesk$Big;)V"⟩
def dkwX7_powerMod_7 : List UInt8 := [180, 0, 28, 42, 180, 0, 25, 182, 0, 134, 42, 180, 0, 31, 42, 180, 0, 16, 182, 0, 58, 177]
abbrev dktX7_powerMod_7 : List UInt8 := dkwX7_powerMod_7 ++ []
def dkwX7_powerMod_6 : List UInt8 := [182, 0, 134, 42, 180, 0, 28, 42, 180, 0, 16, 182, 0, 58, 132, 4, 255, 167, 255, 163, 42, 42]
abbrev dktX7_powerMod_6 : List UInt8 := dkwX7_powerMod_6 ++ dktX7_powerMod_7
def dkwX7_powerMod_5 : List UInt8 := [180, 0, 22, 42, 180, 0, 28, 42, 180, 0, 19, 182, 0, 128, 42, 42, 180, 0, 22, 42, 180, 0, 25]
abbrev dktX7_powerMod_5 : List UInt8 := dkwX7_powerMod_5 ++ dktX7_powerMod_6
def dkwX7_powerMod_4 : List UInt8 := [182, 0, 134, 42, 180, 0, 28, 42, 180, 0, 16, 182, 0, 58, 44, 21, 4, 182, 0, 137, 153, 0, 41, 42]
abbrev dktX7_powerMod_4 : List UInt8 := dkwX7_powerMod_4 ++ dktX7_powerMod_5
def dkwX7_powerMod_3 : List UInt8 := [42, 180, 0, 22, 42, 180, 0, 28, 42, 180, 0, 28, 182, 0, 128, 42, 42, 180, 0, 22, 42, 180, 0, 25]
abbrev dktX7_powerMod_3 : List UInt8 := dkwX7_powerMod_3 ++ dktX7_powerMod_4
def dkwX7_powerMod_2 : List UInt8 := [182, 0, 58, 42, 180, 0, 28, 10, 182, 0, 70, 44, 182, 0, 87, 4, 100, 54, 4, 21, 4, 155, 0, 94]
abbrev dktX7_powerMod_2 : List UInt8 := dkwX7_powerMod_2 ++ dktX7_powerMod_3
def dkwX7_powerMod_1 : List UInt8 := [180, 0, 25, 45, 182, 0, 58, 42, 43, 42, 180, 0, 25, 182, 0, 134, 42, 180, 0, 19, 42, 180, 0, 16]
abbrev dktX7_powerMod_1 : List UInt8 := dkwX7_powerMod_1 ++ dktX7_powerMod_2
def dkwX7_powerMod_0 : List UInt8 := [45, 182, 0, 118, 158, 0, 14, 44, 180, 0, 62, 154, 0, 7, 4, 167, 0, 4, 3, 184, 0, 44, 42]
abbrev dktX7_powerMod_0 : List UInt8 := dkwX7_powerMod_0 ++ dktX7_powerMod_1
theorem dksX7_powerMod_0 : cX7_powerMod.data.toList.drop 0 = dktX7_powerMod_0 := by decide +kernel
theorem dksX7_powerMod_1 : cX7_powerMod.data.toList.drop 23 = dktX7_powerMod_1 := dk_seg dksX7_powerMod_0 23 rfl rfl
theorem dksX7_powerMod_2 : cX7_powerMod.data.toList.drop 47 = dktX7_powerMod_2 := dk_seg dksX7_powerMod_1 24 rfl rfl
theorem dksX7_powerMod_3 : cX7_powerMod.data.toList.drop 71 = dktX7_powerMod_3 := dk_seg dksX7_powerMod_2 24 rfl rfl
theorem dksX7_powerMod_4 : cX7_powerMod.data.toList.drop 95 = dktX7_powerMod_4 := dk_seg dksX7_powerMod_3 24 rfl rfl
theorem dksX7_powerMod_5 : cX7_powerMod.data.toList.drop 119 = dktX7_powerMod_5 := dk_seg dksX7_powerMod_4 24 rfl rfl
theorem dksX7_powerMod_6 : cX7_powerMod.data.toList.drop 142 = dktX7_powerMod_6 := dk_seg dksX7_powerMod_5 23 rfl rfl
theorem dksX7_powerMod_7 : cX7_powerMod.data.toList.drop 164 = dktX7_powerMod_7 := dk_seg dksX7_powerMod_6 22 rfl rfl
theorem dX7_powerMod_0 : decode cX7_powerMod 0 = .ok (.aload_n 3, 1) := dk_45 (dk_at dksX7_powerMod_0 0 rfl rfl)
theorem dX7_powerMod_1 : decode cX7_powerMod 1 = .ok (.invokevirtual 118, 3) := dk_182 0 118 (dk_at dksX7_powerMod_0 1 rfl rfl)
theorem dX7_powerMod_4 : decode cX7_powerMod 4 = .ok (.ifCond .le 14, 3) := dk_158 0 14 (dk_at dksX7_powerMod_0 4 rfl rfl)
theorem dX7_powerMod_7 : decode cX7_powerMod 7 = .ok (.aload_n 2, 1) := dk_44 (dk_at dksX7_powerMod_0 7 rfl rfl)
theorem dX7_powerMod_8 : decode cX7_powerMod 8 = .ok (.getfield 62, 3) := dk_180 0 62 (dk_at dksX7_powerMod_0 8 rfl rfl)
theorem dX7_powerMod_11 : decode cX7_powerMod 11 = .ok (.ifCond .ne 7, 3) := dk_154 0 7 (dk_at dksX7_powerMod_0 11 rfl rfl)
theorem dX7_powerMod_14 : decode cX7_powerMod 14 = .ok (.iconst 1, 1) := dk_4 (dk_at dksX7_powerMod_0 14 rfl rfl)
theorem dX7_powerMod_15 : decode cX7_powerMod 15 = .ok (.goto 4, 3) := dk_167 0 4 (dk_at dksX7_powerMod_0 15 rfl rfl)
theorem dX7_powerMod_18 : decode cX7_powerMod 18 = .ok (.iconst 0, 1) := dk_3 (dk_at dksX7_powerMod_0 18 rfl rfl)
theorem dX7_powerMod_19 : decode cX7_powerMod 19 = .ok (.invokestatic 44, 3) := dk_184 0 44 (dk_at dksX7_powerMod_0 19 rfl rfl)
theorem dX7_powerMod_22 : decode cX7_powerMod 22 = .ok (.aload_n 0, 1) := dk_42 (dk_at dksX7_powerMod_0 22 rfl rfl)
theorem dX7_powerMod_23 : decode cX7_powerMod 23 = .ok (.getfield 25, 3) := dk_180 0 25 (dk_at dksX7_powerMod_1 0 rfl rfl)
theorem dX7_powerMod_26 : decode cX7_powerMod 26 = .ok (.aload_n 3, 1) := dk_45 (dk_at dksX7_powerMod_1 3 rfl rfl)
theorem dX7_powerMod_27 : decode cX7_powerMod 27 = .ok (.invokevirtual 58, 3) := dk_182 0 58 (dk_at dksX7_powerMod_1 4 rfl rfl)
theorem dX7_powerMod_30 : decode cX7_powerMod 30 = .ok (.aload_n 0, 1) := dk_42 (dk_at dksX7_powerMod_1 7 rfl rfl)
theorem dX7_powerMod_31 : decode cX7_powerMod 31 = .ok (.aload_n 1, 1) := dk_43 (dk_at dksX7_powerMod_1 8 rfl rfl)
theorem dX7_powerMod_32 : decode cX7_powerMod 32 = .ok (.aload_n 0, 1) := dk_42 (dk_at dksX7_powerMod_1 9 rfl rfl)
theorem dX7_powerMod_33 : decode cX7_powerMod 33 = .ok (.getfield 25, 3) := dk_180 0 25 (dk_at dksX7_powerMod_1 10 rfl rfl)
theorem dX7_powerMod_36 : decode cX7_powerMod 36 = .ok (.invokevirtual 134, 3) := dk_182 0 134 (dk_at dksX7_powerMod_1 13 rfl rfl)
theorem dX7_powerMod_39 : decode cX7_powerMod 39 = .ok (.aload_n 0, 1) := dk_42 (dk_at dksX7_powerMod_1 16 rfl rfl)
theorem dX7_powerMod_40 : decode cX7_powerMod 40 = .ok (.getfield 19, 3) := dk_180 0 19 (dk_at dksX7_powerMod_1 17 rfl rfl)
theorem dX7_powerMod_43 : decode cX7_powerMod 43 = .ok (.aload_n 0, 1) := dk_42 (dk_at dksX7_powerMod_1 20 rfl rfl)
theorem dX7_powerMod_44 : decode cX7_powerMod 44 = .ok (.getfield 16, 3) := dk_180 0 16 (dk_at dksX7_powerMod_1 21 rfl rfl)
theorem dX7_powerMod_47 : decode cX7_powerMod 47 = .ok (.invokevirtual 58, 3) := dk_182 0 58 (dk_at dksX7_powerMod_2 0 rfl rfl)
theorem dX7_powerMod_50 : decode cX7_powerMod 50 = .ok (.aload_n 0, 1) := dk_42 (dk_at dksX7_powerMod_2 3 rfl rfl)
theorem dX7_powerMod_51 : decode cX7_powerMod 51 = .ok (.getfield 28, 3) := dk_180 0 28 (dk_at dksX7_powerMod_2 4 rfl rfl)
theorem dX7_powerMod_54 : decode cX7_powerMod 54 = .ok (.lconst 1, 1) := dk_10 (dk_at dksX7_powerMod_2 7 rfl rfl)
theorem dX7_powerMod_55 : decode cX7_powerMod 55 = .ok (.invokevirtual 70, 3) := dk_182 0 70 (dk_at dksX7_powerMod_2 8 rfl rfl)
theorem dX7_powerMod_58 : decode cX7_powerMod 58 = .ok (.aload_n 2, 1) := dk_44 (dk_at dksX7_powerMod_2 11 rfl rfl)
theorem dX7_powerMod_59 : decode cX7_powerMod 59 = .ok (.invokevirtual 87, 3) := dk_182 0 87 (dk_at dksX7_powerMod_2 12 rfl rfl)
theorem dX7_powerMod_62 : decode cX7_powerMod 62 = .ok (.iconst 1, 1) := dk_4 (dk_at dksX7_powerMod_2 15 rfl rfl)
theorem dX7_powerMod_63 : decode cX7_powerMod 63 = .ok (.isub, 1) := dk_100 (dk_at dksX7_powerMod_2 16 rfl rfl)
theorem dX7_powerMod_64 : decode cX7_powerMod 64 = .ok (.istore 4, 2) := dk_54 4 (dk_at dksX7_powerMod_2 17 rfl rfl)
theorem dX7_powerMod_66 : decode cX7_powerMod 66 = .ok (.iload 4, 2) := dk_21 4 (dk_at dksX7_powerMod_2 19 rfl rfl)
theorem dX7_powerMod_68 : decode cX7_powerMod 68 = .ok (.ifCond .lt 94, 3) := dk_155 0 94 (dk_at dksX7_powerMod_2 21 rfl rfl)
theorem dX7_powerMod_71 : decode cX7_powerMod 71 = .ok (.aload_n 0, 1) := dk_42 (dk_at dksX7_powerMod_3 0 rfl rfl)
theorem dX7_powerMod_72 : decode cX7_powerMod 72 = .ok (.getfield 22, 3) := dk_180 0 22 (dk_at dksX7_powerMod_3 1 rfl rfl)
theorem dX7_powerMod_75 : decode cX7_powerMod 75 = .ok (.aload_n 0, 1) := dk_42 (dk_at dksX7_powerMod_3 4 rfl rfl)
theorem dX7_powerMod_76 : decode cX7_powerMod 76 = .ok (.getfield 28, 3) := dk_180 0 28 (dk_at dksX7_powerMod_3 5 rfl rfl)
theorem dX7_powerMod_79 : decode cX7_powerMod 79 = .ok (.aload_n 0, 1) := dk_42 (dk_at dksX7_powerMod_3 8 rfl rfl)
theorem dX7_powerMod_80 : decode cX7_powerMod 80 = .ok (.getfield 28, 3) := dk_180 0 28 (dk_at dksX7_powerMod_3 9 rfl rfl)
theorem dX7_powerMod_83 : decode cX7_powerMod 83 = .ok (.invokevirtual 128, 3) := dk_182 0 128 (dk_at dksX7_powerMod_3 12 rfl rfl)
theorem dX7_powerMod_86 : decode cX7_powerMod 86 = .ok (.aload_n 0, 1) := dk_42 (dk_at dksX7_powerMod_3 15 rfl rfl)
theorem dX7_powerMod_87 : decode cX7_powerMod 87 = .ok (.aload_n 0, 1) := dk_42 (dk_at dksX7_powerMod_3 16 rfl rfl)
theorem dX7_powerMod_88 : decode cX7_powerMod 88 = .ok (.getfield 22, 3) := dk_180 0 22 (dk_at dksX7_powerMod_3 17 rfl rfl)
theorem dX7_powerMod_91 : decode cX7_powerMod 91 = .ok (.aload_n 0, 1) := dk_42 (dk_at dksX7_powerMod_3 20 rfl rfl)
theorem dX7_powerMod_92 : decode cX7_powerMod 92 = .ok (.getfield 25, 3) := dk_180 0 25 (dk_at dksX7_powerMod_3 21 rfl rfl)
theorem dX7_powerMod_95 : decode cX7_powerMod 95 = .ok (.invokevirtual 134, 3) := dk_182 0 134 (dk_at dksX7_powerMod_4 0 rfl rfl)
theorem dX7_powerMod_98 : decode cX7_powerMod 98 = .ok (.aload_n 0, 1) := dk_42 (dk_at dksX7_powerMod_4 3 rfl rfl)
theorem dX7_powerMod_99 : decode cX7_powerMod 99 = .ok (.getfield 28, 3) := dk_180 0 28 (dk_at dksX7_powerMod_4 4 rfl rfl)
theorem dX7_powerMod_102 : decode cX7_powerMod 102 = .ok (.aload_n 0, 1) := dk_42 (dk_at dksX7_powerMod_4 7 rfl rfl)
theorem dX7_powerMod_103 : decode cX7_powerMod 103 = .ok (.getfield 16, 3) := dk_180 0 16 (dk_at dksX7_powerMod_4 8 rfl rfl)
theorem dX7_powerMod_106 : decode cX7_powerMod 106 = .ok (.invokevirtual 58, 3) := dk_182 0 58 (dk_at dksX7_powerMod_4 11 rfl rfl)
theorem dX7_powerMod_109 : decode cX7_powerMod 109 = .ok (.aload_n 2, 1) := dk_44 (dk_at dksX7_powerMod_4 14 rfl rfl)
theorem dX7_powerMod_110 : decode cX7_powerMod 110 = .ok (.iload 4, 2) := dk_21 4 (dk_at dksX7_powerMod_4 15 rfl rfl)
theorem dX7_powerMod_112 : decode cX7_powerMod 112 = .ok (.invokevirtual 137, 3) := dk_182 0 137 (dk_at dksX7_powerMod_4 17 rfl rfl)
theorem dX7_powerMod_115 : decode cX7_powerMod 115 = .ok (.ifCond .eq 41, 3) := dk_153 0 41 (dk_at dksX7_powerMod_4 20 rfl rfl)
theorem dX7_powerMod_118 : decode cX7_powerMod 118 = .ok (.aload_n 0, 1) := dk_42 (dk_at dksX7_powerMod_4 23 rfl rfl)
theorem dX7_powerMod_119 : decode cX7_powerMod 119 = .ok (.getfield 22, 3) := dk_180 0 22 (dk_at dksX7_powerMod_5 0 rfl rfl)
theorem dX7_powerMod_122 : decode cX7_powerMod 122 = .ok (.aload_n 0, 1) := dk_42 (dk_at dksX7_powerMod_5 3 rfl rfl)
theorem dX7_powerMod_123 : decode cX7_powerMod 123 = .ok (.getfield 28, 3) := dk_180 0 28 (dk_at dksX7_powerMod_5 4 rfl rfl)
theorem dX7_powerMod_126 : decode cX7_powerMod 126 = .ok (.aload_n 0, 1) := dk_42 (dk_at dksX7_powerMod_5 7 rfl rfl)
theorem dX7_powerMod_127 : decode cX7_powerMod 127 = .ok (.getfield 19, 3) := dk_180 0 19 (dk_at dksX7_powerMod_5 8 rfl rfl)
theorem dX7_powerMod_130 : decode cX7_powerMod 130 = .ok (.invokevirtual 128, 3) := dk_182 0 128 (dk_at dksX7_powerMod_5 11 rfl rfl)
theorem dX7_powerMod_133 : decode cX7_powerMod 133 = .ok (.aload_n 0, 1) := dk_42 (dk_at dksX7_powerMod_5 14 rfl rfl)
theorem dX7_powerMod_134 : decode cX7_powerMod 134 = .ok (.aload_n 0, 1) := dk_42 (dk_at dksX7_powerMod_5 15 rfl rfl)
theorem dX7_powerMod_135 : decode cX7_powerMod 135 = .ok (.getfield 22, 3) := dk_180 0 22 (dk_at dksX7_powerMod_5 16 rfl rfl)
theorem dX7_powerMod_138 : decode cX7_powerMod 138 = .ok (.aload_n 0, 1) := dk_42 (dk_at dksX7_powerMod_5 19 rfl rfl)
theorem dX7_powerMod_139 : decode cX7_powerMod 139 = .ok (.getfield 25, 3) := dk_180 0 25 (dk_at dksX7_powerMod_5 20 rfl rfl)
theorem dX7_powerMod_142 : decode cX7_powerMod 142 = .ok (.invokevirtual 134, 3) := dk_182 0 134 (dk_at dksX7_powerMod_6 0 rfl rfl)
theorem dX7_powerMod_145 : decode cX7_powerMod 145 = .ok (.aload_n 0, 1) := dk_42 (dk_at dksX7_powerMod_6 3 rfl rfl)
theorem dX7_powerMod_146 : decode cX7_powerMod 146 = .ok (.getfield 28, 3) := dk_180 0 28 (dk_at dksX7_powerMod_6 4 rfl rfl)
theorem dX7_powerMod_149 : decode cX7_powerMod 149 = .ok (.aload_n 0, 1) := dk_42 (dk_at dksX7_powerMod_6 7 rfl rfl)
theorem dX7_powerMod_150 : decode cX7_powerMod 150 = .ok (.getfield 16, 3) := dk_180 0 16 (dk_at dksX7_powerMod_6 8 rfl rfl)
theorem dX7_powerMod_153 : decode cX7_powerMod 153 = .ok (.invokevirtual 58, 3) := dk_182 0 58 (dk_at dksX7_powerMod_6 11 rfl rfl)
theorem dX7_powerMod_156 : decode cX7_powerMod 156 = .ok (.iinc 4 (-1), 3) := dk_132 4 255 (dk_at dksX7_powerMod_6 14 rfl rfl)
theorem dX7_powerMod_159 : decode cX7_powerMod 159 = .ok (.goto (-93), 3) := dk_167 255 163 (dk_at dksX7_powerMod_6 17 rfl rfl)
theorem dX7_powerMod_162 : decode cX7_powerMod 162 = .ok (.aload_n 0, 1) := dk_42 (dk_at dksX7_powerMod_6 20 rfl rfl)
theorem dX7_powerMod_163 : decode cX7_powerMod 163 = .ok (.aload_n 0, 1) := dk_42 (dk_at dksX7_powerMod_6 21 rfl rfl)
theorem dX7_powerMod_164 : decode cX7_powerMod 164 = .ok (.getfield 28, 3) := dk_180 0 28 (dk_at dksX7_powerMod_7 0 rfl rfl)
theorem dX7_powerMod_167 : decode cX7_powerMod 167 = .ok (.aload_n 0, 1) := dk_42 (dk_at dksX7_powerMod_7 3 rfl rfl)
theorem dX7_powerMod_168 : decode cX7_powerMod 168 = .ok (.getfield 25, 3) := dk_180 0 25 (dk_at dksX7_powerMod_7 4 rfl rfl)
theorem dX7_powerMod_171 : decode cX7_powerMod 171 = .ok (.invokevirtual 134, 3) := dk_182 0 134 (dk_at dksX7_powerMod_7 7 rfl rfl)
theorem dX7_powerMod_174 : decode cX7_powerMod 174 = .ok (.aload_n 0, 1) := dk_42 (dk_at dksX7_powerMod_7 10 rfl rfl)
theorem dX7_powerMod_175 : decode cX7_powerMod 175 = .ok (.getfield 31, 3) := dk_180 0 31 (dk_at dksX7_powerMod_7 11 rfl rfl)
theorem dX7_powerMod_178 : decode cX7_powerMod 178 = .ok (.aload_n 0, 1) := dk_42 (dk_at dksX7_powerMod_7 14 rfl rfl)
theorem dX7_powerMod_179 : decode cX7_powerMod 179 = .ok (.getfield 16, 3) := dk_180 0 16 (dk_at dksX7_powerMod_7 15 rfl rfl)
theorem dX7_powerMod_182 : decode cX7_powerMod 182 = .ok (.invokevirtual 58, 3) := dk_182 0 58 (dk_at dksX7_powerMod_7 18 rfl rfl)
theorem dX7_powerMod_185 : decode cX7_powerMod 185 = .ok (.return_, 1) := dk_177 (dk_at dksX7_powerMod_7 21 rfl rfl)
abbrev cX7_root : ByteArray := prog_24_method_14_code
def yX7_root : MethodName := ⟨RX7, "root", "(LLibraryDesk$Big;)V"⟩
def dkwX7_root_4 : List UInt8 := [180, 0, 31, 42, 180, 0, 19, 182, 0, 58, 132, 2, 255, 167, 255, 180, 177]
abbrev dktX7_root_4 : List UInt8 := dkwX7_root_4 ++ []
def dkwX7_root_3 : List UInt8 := [42, 180, 0, 19, 42, 180, 0, 19, 182, 0, 128, 42, 180, 0, 22, 43, 184, 0, 80, 157, 0, 14, 42]
abbrev dktX7_root_3 : List UInt8 := dkwX7_root_3 ++ dktX7_root_4
def dkwX7_root_2 : List UInt8 := [28, 182, 0, 91, 42, 180, 0, 19, 42, 180, 0, 19, 42, 180, 0, 31, 3, 182, 0, 124, 42, 180, 0, 22]
abbrev dktX7_root_2 : List UInt8 := dkwX7_root_2 ++ dktX7_root_3
def dkwX7_root_1 : List UInt8 := [182, 0, 87, 4, 96, 5, 108, 61, 28, 155, 0, 78, 42, 180, 0, 19, 10, 182, 0, 70, 42, 180, 0, 19]
abbrev dktX7_root_1 : List UInt8 := dkwX7_root_1 ++ dktX7_root_2
def dkwX7_root_0 : List UInt8 := [43, 180, 0, 62, 154, 0, 7, 4, 167, 0, 4, 3, 184, 0, 44, 42, 180, 0, 31, 182, 0, 84, 43]
abbrev dktX7_root_0 : List UInt8 := dkwX7_root_0 ++ dktX7_root_1
theorem dksX7_root_0 : cX7_root.data.toList.drop 0 = dktX7_root_0 := by decide +kernel
theorem dksX7_root_1 : cX7_root.data.toList.drop 23 = dktX7_root_1 := dk_seg dksX7_root_0 23 rfl rfl
theorem dksX7_root_2 : cX7_root.data.toList.drop 47 = dktX7_root_2 := dk_seg dksX7_root_1 24 rfl rfl
theorem dksX7_root_3 : cX7_root.data.toList.drop 71 = dktX7_root_3 := dk_seg dksX7_root_2 24 rfl rfl
theorem dksX7_root_4 : cX7_root.data.toList.drop 94 = dktX7_root_4 := dk_seg dksX7_root_3 23 rfl rfl
theorem dX7_root_0 : decode cX7_root 0 = .ok (.aload_n 1, 1) := dk_43 (dk_at dksX7_root_0 0 rfl rfl)
theorem dX7_root_1 : decode cX7_root 1 = .ok (.getfield 62, 3) := dk_180 0 62 (dk_at dksX7_root_0 1 rfl rfl)
theorem dX7_root_4 : decode cX7_root 4 = .ok (.ifCond .ne 7, 3) := dk_154 0 7 (dk_at dksX7_root_0 4 rfl rfl)
theorem dX7_root_7 : decode cX7_root 7 = .ok (.iconst 1, 1) := dk_4 (dk_at dksX7_root_0 7 rfl rfl)
theorem dX7_root_8 : decode cX7_root 8 = .ok (.goto 4, 3) := dk_167 0 4 (dk_at dksX7_root_0 8 rfl rfl)
theorem dX7_root_11 : decode cX7_root 11 = .ok (.iconst 0, 1) := dk_3 (dk_at dksX7_root_0 11 rfl rfl)
theorem dX7_root_12 : decode cX7_root 12 = .ok (.invokestatic 44, 3) := dk_184 0 44 (dk_at dksX7_root_0 12 rfl rfl)
theorem dX7_root_15 : decode cX7_root 15 = .ok (.aload_n 0, 1) := dk_42 (dk_at dksX7_root_0 15 rfl rfl)
theorem dX7_root_16 : decode cX7_root 16 = .ok (.getfield 31, 3) := dk_180 0 31 (dk_at dksX7_root_0 16 rfl rfl)
theorem dX7_root_19 : decode cX7_root 19 = .ok (.invokevirtual 84, 3) := dk_182 0 84 (dk_at dksX7_root_0 19 rfl rfl)
theorem dX7_root_22 : decode cX7_root 22 = .ok (.aload_n 1, 1) := dk_43 (dk_at dksX7_root_0 22 rfl rfl)
theorem dX7_root_23 : decode cX7_root 23 = .ok (.invokevirtual 87, 3) := dk_182 0 87 (dk_at dksX7_root_1 0 rfl rfl)
theorem dX7_root_26 : decode cX7_root 26 = .ok (.iconst 1, 1) := dk_4 (dk_at dksX7_root_1 3 rfl rfl)
theorem dX7_root_27 : decode cX7_root 27 = .ok (.iadd, 1) := dk_96 (dk_at dksX7_root_1 4 rfl rfl)
theorem dX7_root_28 : decode cX7_root 28 = .ok (.iconst 2, 1) := dk_5 (dk_at dksX7_root_1 5 rfl rfl)
theorem dX7_root_29 : decode cX7_root 29 = .ok (.idiv, 1) := dk_108 (dk_at dksX7_root_1 6 rfl rfl)
theorem dX7_root_30 : decode cX7_root 30 = .ok (.istore_n 2, 1) := dk_61 (dk_at dksX7_root_1 7 rfl rfl)
theorem dX7_root_31 : decode cX7_root 31 = .ok (.iload_n 2, 1) := dk_28 (dk_at dksX7_root_1 8 rfl rfl)
theorem dX7_root_32 : decode cX7_root 32 = .ok (.ifCond .lt 78, 3) := dk_155 0 78 (dk_at dksX7_root_1 9 rfl rfl)
theorem dX7_root_35 : decode cX7_root 35 = .ok (.aload_n 0, 1) := dk_42 (dk_at dksX7_root_1 12 rfl rfl)
theorem dX7_root_36 : decode cX7_root 36 = .ok (.getfield 19, 3) := dk_180 0 19 (dk_at dksX7_root_1 13 rfl rfl)
theorem dX7_root_39 : decode cX7_root 39 = .ok (.lconst 1, 1) := dk_10 (dk_at dksX7_root_1 16 rfl rfl)
theorem dX7_root_40 : decode cX7_root 40 = .ok (.invokevirtual 70, 3) := dk_182 0 70 (dk_at dksX7_root_1 17 rfl rfl)
theorem dX7_root_43 : decode cX7_root 43 = .ok (.aload_n 0, 1) := dk_42 (dk_at dksX7_root_1 20 rfl rfl)
theorem dX7_root_44 : decode cX7_root 44 = .ok (.getfield 19, 3) := dk_180 0 19 (dk_at dksX7_root_1 21 rfl rfl)
theorem dX7_root_47 : decode cX7_root 47 = .ok (.iload_n 2, 1) := dk_28 (dk_at dksX7_root_2 0 rfl rfl)
theorem dX7_root_48 : decode cX7_root 48 = .ok (.invokevirtual 91, 3) := dk_182 0 91 (dk_at dksX7_root_2 1 rfl rfl)
theorem dX7_root_51 : decode cX7_root 51 = .ok (.aload_n 0, 1) := dk_42 (dk_at dksX7_root_2 4 rfl rfl)
theorem dX7_root_52 : decode cX7_root 52 = .ok (.getfield 19, 3) := dk_180 0 19 (dk_at dksX7_root_2 5 rfl rfl)
theorem dX7_root_55 : decode cX7_root 55 = .ok (.aload_n 0, 1) := dk_42 (dk_at dksX7_root_2 8 rfl rfl)
theorem dX7_root_56 : decode cX7_root 56 = .ok (.getfield 19, 3) := dk_180 0 19 (dk_at dksX7_root_2 9 rfl rfl)
theorem dX7_root_59 : decode cX7_root 59 = .ok (.aload_n 0, 1) := dk_42 (dk_at dksX7_root_2 12 rfl rfl)
theorem dX7_root_60 : decode cX7_root 60 = .ok (.getfield 31, 3) := dk_180 0 31 (dk_at dksX7_root_2 13 rfl rfl)
theorem dX7_root_63 : decode cX7_root 63 = .ok (.iconst 0, 1) := dk_3 (dk_at dksX7_root_2 16 rfl rfl)
theorem dX7_root_64 : decode cX7_root 64 = .ok (.invokevirtual 124, 3) := dk_182 0 124 (dk_at dksX7_root_2 17 rfl rfl)
theorem dX7_root_67 : decode cX7_root 67 = .ok (.aload_n 0, 1) := dk_42 (dk_at dksX7_root_2 20 rfl rfl)
theorem dX7_root_68 : decode cX7_root 68 = .ok (.getfield 22, 3) := dk_180 0 22 (dk_at dksX7_root_2 21 rfl rfl)
theorem dX7_root_71 : decode cX7_root 71 = .ok (.aload_n 0, 1) := dk_42 (dk_at dksX7_root_3 0 rfl rfl)
theorem dX7_root_72 : decode cX7_root 72 = .ok (.getfield 19, 3) := dk_180 0 19 (dk_at dksX7_root_3 1 rfl rfl)
theorem dX7_root_75 : decode cX7_root 75 = .ok (.aload_n 0, 1) := dk_42 (dk_at dksX7_root_3 4 rfl rfl)
theorem dX7_root_76 : decode cX7_root 76 = .ok (.getfield 19, 3) := dk_180 0 19 (dk_at dksX7_root_3 5 rfl rfl)
theorem dX7_root_79 : decode cX7_root 79 = .ok (.invokevirtual 128, 3) := dk_182 0 128 (dk_at dksX7_root_3 8 rfl rfl)
theorem dX7_root_82 : decode cX7_root 82 = .ok (.aload_n 0, 1) := dk_42 (dk_at dksX7_root_3 11 rfl rfl)
theorem dX7_root_83 : decode cX7_root 83 = .ok (.getfield 22, 3) := dk_180 0 22 (dk_at dksX7_root_3 12 rfl rfl)
theorem dX7_root_86 : decode cX7_root 86 = .ok (.aload_n 1, 1) := dk_43 (dk_at dksX7_root_3 15 rfl rfl)
theorem dX7_root_87 : decode cX7_root 87 = .ok (.invokestatic 80, 3) := dk_184 0 80 (dk_at dksX7_root_3 16 rfl rfl)
theorem dX7_root_90 : decode cX7_root 90 = .ok (.ifCond .gt 14, 3) := dk_157 0 14 (dk_at dksX7_root_3 19 rfl rfl)
theorem dX7_root_93 : decode cX7_root 93 = .ok (.aload_n 0, 1) := dk_42 (dk_at dksX7_root_3 22 rfl rfl)
theorem dX7_root_94 : decode cX7_root 94 = .ok (.getfield 31, 3) := dk_180 0 31 (dk_at dksX7_root_4 0 rfl rfl)
theorem dX7_root_97 : decode cX7_root 97 = .ok (.aload_n 0, 1) := dk_42 (dk_at dksX7_root_4 3 rfl rfl)
theorem dX7_root_98 : decode cX7_root 98 = .ok (.getfield 19, 3) := dk_180 0 19 (dk_at dksX7_root_4 4 rfl rfl)
theorem dX7_root_101 : decode cX7_root 101 = .ok (.invokevirtual 58, 3) := dk_182 0 58 (dk_at dksX7_root_4 7 rfl rfl)
theorem dX7_root_104 : decode cX7_root 104 = .ok (.iinc 2 (-1), 3) := dk_132 2 255 (dk_at dksX7_root_4 10 rfl rfl)
theorem dX7_root_107 : decode cX7_root 107 = .ok (.goto (-76), 3) := dk_167 255 180 (dk_at dksX7_root_4 13 rfl rfl)
theorem dX7_root_110 : decode cX7_root 110 = .ok (.return_, 1) := dk_177 (dk_at dksX7_root_4 16 rfl rfl)
abbrev cX7_shift : ByteArray := prog_24_method_15_code
def yX7_shift : MethodName := ⟨RX7, "shift", "(LLibraryDesk$Big;I)V"⟩
def dkwX7_shift_5 : List UInt8 := [182, 0, 124, 177]
abbrev dktX7_shift_5 : List UInt8 := dkwX7_shift_5 ++ []
def dkwX7_shift_4 : List UInt8 := [43, 180, 0, 62, 153, 0, 23, 29, 153, 0, 19, 42, 180, 0, 31, 42, 180, 0, 31, 42, 180, 0, 19, 4]
abbrev dktX7_shift_4 : List UInt8 := dkwX7_shift_4 ++ dktX7_shift_5
def dkwX7_shift_3 : List UInt8 := [180, 0, 62, 153, 0, 17, 42, 180, 0, 31, 180, 0, 50, 158, 0, 7, 4, 167, 0, 4, 3, 181, 0, 62]
abbrev dktX7_shift_3 : List UInt8 := dkwX7_shift_3 ++ dktX7_shift_4
def dkwX7_shift_2 : List UInt8 := [42, 180, 0, 31, 28, 116, 182, 0, 112, 62, 42, 180, 0, 19, 10, 182, 0, 70, 42, 180, 0, 31, 43]
abbrev dktX7_shift_2 : List UInt8 := dkwX7_shift_2 ++ dktX7_shift_3
def dkwX7_shift_1 : List UInt8 := [96, 17, 8, 0, 163, 0, 7, 4, 167, 0, 4, 3, 184, 0, 44, 42, 180, 0, 31, 28, 182, 0, 91, 177]
abbrev dktX7_shift_1 : List UInt8 := dkwX7_shift_1 ++ dktX7_shift_2
def dkwX7_shift_0 : List UInt8 := [42, 180, 0, 31, 43, 182, 0, 58, 28, 155, 0, 39, 43, 182, 0, 40, 154, 0, 15, 43, 182, 0, 87, 28]
abbrev dktX7_shift_0 : List UInt8 := dkwX7_shift_0 ++ dktX7_shift_1
theorem dksX7_shift_0 : cX7_shift.data.toList.drop 0 = dktX7_shift_0 := by decide +kernel
theorem dksX7_shift_1 : cX7_shift.data.toList.drop 24 = dktX7_shift_1 := dk_seg dksX7_shift_0 24 rfl rfl
theorem dksX7_shift_2 : cX7_shift.data.toList.drop 48 = dktX7_shift_2 := dk_seg dksX7_shift_1 24 rfl rfl
theorem dksX7_shift_3 : cX7_shift.data.toList.drop 71 = dktX7_shift_3 := dk_seg dksX7_shift_2 23 rfl rfl
theorem dksX7_shift_4 : cX7_shift.data.toList.drop 95 = dktX7_shift_4 := dk_seg dksX7_shift_3 24 rfl rfl
theorem dksX7_shift_5 : cX7_shift.data.toList.drop 119 = dktX7_shift_5 := dk_seg dksX7_shift_4 24 rfl rfl
theorem dX7_shift_0 : decode cX7_shift 0 = .ok (.aload_n 0, 1) := dk_42 (dk_at dksX7_shift_0 0 rfl rfl)
theorem dX7_shift_1 : decode cX7_shift 1 = .ok (.getfield 31, 3) := dk_180 0 31 (dk_at dksX7_shift_0 1 rfl rfl)
theorem dX7_shift_4 : decode cX7_shift 4 = .ok (.aload_n 1, 1) := dk_43 (dk_at dksX7_shift_0 4 rfl rfl)
theorem dX7_shift_5 : decode cX7_shift 5 = .ok (.invokevirtual 58, 3) := dk_182 0 58 (dk_at dksX7_shift_0 5 rfl rfl)
theorem dX7_shift_8 : decode cX7_shift 8 = .ok (.iload_n 2, 1) := dk_28 (dk_at dksX7_shift_0 8 rfl rfl)
theorem dX7_shift_9 : decode cX7_shift 9 = .ok (.ifCond .lt 39, 3) := dk_155 0 39 (dk_at dksX7_shift_0 9 rfl rfl)
theorem dX7_shift_12 : decode cX7_shift 12 = .ok (.aload_n 1, 1) := dk_43 (dk_at dksX7_shift_0 12 rfl rfl)
theorem dX7_shift_13 : decode cX7_shift 13 = .ok (.invokevirtual 40, 3) := dk_182 0 40 (dk_at dksX7_shift_0 13 rfl rfl)
theorem dX7_shift_16 : decode cX7_shift 16 = .ok (.ifCond .ne 15, 3) := dk_154 0 15 (dk_at dksX7_shift_0 16 rfl rfl)
theorem dX7_shift_19 : decode cX7_shift 19 = .ok (.aload_n 1, 1) := dk_43 (dk_at dksX7_shift_0 19 rfl rfl)
theorem dX7_shift_20 : decode cX7_shift 20 = .ok (.invokevirtual 87, 3) := dk_182 0 87 (dk_at dksX7_shift_0 20 rfl rfl)
theorem dX7_shift_23 : decode cX7_shift 23 = .ok (.iload_n 2, 1) := dk_28 (dk_at dksX7_shift_0 23 rfl rfl)
theorem dX7_shift_24 : decode cX7_shift 24 = .ok (.iadd, 1) := dk_96 (dk_at dksX7_shift_1 0 rfl rfl)
theorem dX7_shift_25 : decode cX7_shift 25 = .ok (.sipush 2048, 3) := dk_17 8 0 (dk_at dksX7_shift_1 1 rfl rfl)
theorem dX7_shift_28 : decode cX7_shift 28 = .ok (.if_icmp .gt 7, 3) := dk_163 0 7 (dk_at dksX7_shift_1 4 rfl rfl)
theorem dX7_shift_31 : decode cX7_shift 31 = .ok (.iconst 1, 1) := dk_4 (dk_at dksX7_shift_1 7 rfl rfl)
theorem dX7_shift_32 : decode cX7_shift 32 = .ok (.goto 4, 3) := dk_167 0 4 (dk_at dksX7_shift_1 8 rfl rfl)
theorem dX7_shift_35 : decode cX7_shift 35 = .ok (.iconst 0, 1) := dk_3 (dk_at dksX7_shift_1 11 rfl rfl)
theorem dX7_shift_36 : decode cX7_shift 36 = .ok (.invokestatic 44, 3) := dk_184 0 44 (dk_at dksX7_shift_1 12 rfl rfl)
theorem dX7_shift_39 : decode cX7_shift 39 = .ok (.aload_n 0, 1) := dk_42 (dk_at dksX7_shift_1 15 rfl rfl)
theorem dX7_shift_40 : decode cX7_shift 40 = .ok (.getfield 31, 3) := dk_180 0 31 (dk_at dksX7_shift_1 16 rfl rfl)
theorem dX7_shift_43 : decode cX7_shift 43 = .ok (.iload_n 2, 1) := dk_28 (dk_at dksX7_shift_1 19 rfl rfl)
theorem dX7_shift_44 : decode cX7_shift 44 = .ok (.invokevirtual 91, 3) := dk_182 0 91 (dk_at dksX7_shift_1 20 rfl rfl)
theorem dX7_shift_47 : decode cX7_shift 47 = .ok (.return_, 1) := dk_177 (dk_at dksX7_shift_1 23 rfl rfl)
theorem dX7_shift_48 : decode cX7_shift 48 = .ok (.aload_n 0, 1) := dk_42 (dk_at dksX7_shift_2 0 rfl rfl)
theorem dX7_shift_49 : decode cX7_shift 49 = .ok (.getfield 31, 3) := dk_180 0 31 (dk_at dksX7_shift_2 1 rfl rfl)
theorem dX7_shift_52 : decode cX7_shift 52 = .ok (.iload_n 2, 1) := dk_28 (dk_at dksX7_shift_2 4 rfl rfl)
theorem dX7_shift_53 : decode cX7_shift 53 = .ok (.ineg, 1) := dk_116 (dk_at dksX7_shift_2 5 rfl rfl)
theorem dX7_shift_54 : decode cX7_shift 54 = .ok (.invokevirtual 112, 3) := dk_182 0 112 (dk_at dksX7_shift_2 6 rfl rfl)
theorem dX7_shift_57 : decode cX7_shift 57 = .ok (.istore_n 3, 1) := dk_62 (dk_at dksX7_shift_2 9 rfl rfl)
theorem dX7_shift_58 : decode cX7_shift 58 = .ok (.aload_n 0, 1) := dk_42 (dk_at dksX7_shift_2 10 rfl rfl)
theorem dX7_shift_59 : decode cX7_shift 59 = .ok (.getfield 19, 3) := dk_180 0 19 (dk_at dksX7_shift_2 11 rfl rfl)
theorem dX7_shift_62 : decode cX7_shift 62 = .ok (.lconst 1, 1) := dk_10 (dk_at dksX7_shift_2 14 rfl rfl)
theorem dX7_shift_63 : decode cX7_shift 63 = .ok (.invokevirtual 70, 3) := dk_182 0 70 (dk_at dksX7_shift_2 15 rfl rfl)
theorem dX7_shift_66 : decode cX7_shift 66 = .ok (.aload_n 0, 1) := dk_42 (dk_at dksX7_shift_2 18 rfl rfl)
theorem dX7_shift_67 : decode cX7_shift 67 = .ok (.getfield 31, 3) := dk_180 0 31 (dk_at dksX7_shift_2 19 rfl rfl)
theorem dX7_shift_70 : decode cX7_shift 70 = .ok (.aload_n 1, 1) := dk_43 (dk_at dksX7_shift_2 22 rfl rfl)
theorem dX7_shift_71 : decode cX7_shift 71 = .ok (.getfield 62, 3) := dk_180 0 62 (dk_at dksX7_shift_3 0 rfl rfl)
theorem dX7_shift_74 : decode cX7_shift 74 = .ok (.ifCond .eq 17, 3) := dk_153 0 17 (dk_at dksX7_shift_3 3 rfl rfl)
theorem dX7_shift_77 : decode cX7_shift 77 = .ok (.aload_n 0, 1) := dk_42 (dk_at dksX7_shift_3 6 rfl rfl)
theorem dX7_shift_78 : decode cX7_shift 78 = .ok (.getfield 31, 3) := dk_180 0 31 (dk_at dksX7_shift_3 7 rfl rfl)
theorem dX7_shift_81 : decode cX7_shift 81 = .ok (.getfield 50, 3) := dk_180 0 50 (dk_at dksX7_shift_3 10 rfl rfl)
theorem dX7_shift_84 : decode cX7_shift 84 = .ok (.ifCond .le 7, 3) := dk_158 0 7 (dk_at dksX7_shift_3 13 rfl rfl)
theorem dX7_shift_87 : decode cX7_shift 87 = .ok (.iconst 1, 1) := dk_4 (dk_at dksX7_shift_3 16 rfl rfl)
theorem dX7_shift_88 : decode cX7_shift 88 = .ok (.goto 4, 3) := dk_167 0 4 (dk_at dksX7_shift_3 17 rfl rfl)
theorem dX7_shift_91 : decode cX7_shift 91 = .ok (.iconst 0, 1) := dk_3 (dk_at dksX7_shift_3 20 rfl rfl)
theorem dX7_shift_92 : decode cX7_shift 92 = .ok (.putfield 62, 3) := dk_181 0 62 (dk_at dksX7_shift_3 21 rfl rfl)
theorem dX7_shift_95 : decode cX7_shift 95 = .ok (.aload_n 1, 1) := dk_43 (dk_at dksX7_shift_4 0 rfl rfl)
theorem dX7_shift_96 : decode cX7_shift 96 = .ok (.getfield 62, 3) := dk_180 0 62 (dk_at dksX7_shift_4 1 rfl rfl)
theorem dX7_shift_99 : decode cX7_shift 99 = .ok (.ifCond .eq 23, 3) := dk_153 0 23 (dk_at dksX7_shift_4 4 rfl rfl)
theorem dX7_shift_102 : decode cX7_shift 102 = .ok (.iload_n 3, 1) := dk_29 (dk_at dksX7_shift_4 7 rfl rfl)
theorem dX7_shift_103 : decode cX7_shift 103 = .ok (.ifCond .eq 19, 3) := dk_153 0 19 (dk_at dksX7_shift_4 8 rfl rfl)
theorem dX7_shift_106 : decode cX7_shift 106 = .ok (.aload_n 0, 1) := dk_42 (dk_at dksX7_shift_4 11 rfl rfl)
theorem dX7_shift_107 : decode cX7_shift 107 = .ok (.getfield 31, 3) := dk_180 0 31 (dk_at dksX7_shift_4 12 rfl rfl)
theorem dX7_shift_110 : decode cX7_shift 110 = .ok (.aload_n 0, 1) := dk_42 (dk_at dksX7_shift_4 15 rfl rfl)
theorem dX7_shift_111 : decode cX7_shift 111 = .ok (.getfield 31, 3) := dk_180 0 31 (dk_at dksX7_shift_4 16 rfl rfl)
theorem dX7_shift_114 : decode cX7_shift 114 = .ok (.aload_n 0, 1) := dk_42 (dk_at dksX7_shift_4 19 rfl rfl)
theorem dX7_shift_115 : decode cX7_shift 115 = .ok (.getfield 19, 3) := dk_180 0 19 (dk_at dksX7_shift_4 20 rfl rfl)
theorem dX7_shift_118 : decode cX7_shift 118 = .ok (.iconst 1, 1) := dk_4 (dk_at dksX7_shift_4 23 rfl rfl)
theorem dX7_shift_119 : decode cX7_shift 119 = .ok (.invokevirtual 124, 3) := dk_182 0 124 (dk_at dksX7_shift_5 0 rfl rfl)
theorem dX7_shift_122 : decode cX7_shift 122 = .ok (.return_, 1) := dk_177 (dk_at dksX7_shift_5 3 rfl rfl)
abbrev cX7_ten : ByteArray := prog_24_method_18_code
def yX7_ten : MethodName := ⟨RX7, "ten", "(LLibraryDesk$Big;I)V"⟩
def dkwX7_ten_1 : List UInt8 := [167, 255, 241, 177]
abbrev dktX7_ten_1 : List UInt8 := dkwX7_ten_1 ++ []
def dkwX7_ten_0 : List UInt8 := [43, 10, 182, 0, 70, 3, 62, 29, 28, 162, 0, 16, 43, 16, 10, 3, 182, 0, 170, 132, 3, 1]
abbrev dktX7_ten_0 : List UInt8 := dkwX7_ten_0 ++ dktX7_ten_1
theorem dksX7_ten_0 : cX7_ten.data.toList.drop 0 = dktX7_ten_0 := by decide +kernel
theorem dksX7_ten_1 : cX7_ten.data.toList.drop 22 = dktX7_ten_1 := dk_seg dksX7_ten_0 22 rfl rfl
theorem dX7_ten_0 : decode cX7_ten 0 = .ok (.aload_n 1, 1) := dk_43 (dk_at dksX7_ten_0 0 rfl rfl)
theorem dX7_ten_1 : decode cX7_ten 1 = .ok (.lconst 1, 1) := dk_10 (dk_at dksX7_ten_0 1 rfl rfl)
theorem dX7_ten_2 : decode cX7_ten 2 = .ok (.invokevirtual 70, 3) := dk_182 0 70 (dk_at dksX7_ten_0 2 rfl rfl)
theorem dX7_ten_5 : decode cX7_ten 5 = .ok (.iconst 0, 1) := dk_3 (dk_at dksX7_ten_0 5 rfl rfl)
theorem dX7_ten_6 : decode cX7_ten 6 = .ok (.istore_n 3, 1) := dk_62 (dk_at dksX7_ten_0 6 rfl rfl)
theorem dX7_ten_7 : decode cX7_ten 7 = .ok (.iload_n 3, 1) := dk_29 (dk_at dksX7_ten_0 7 rfl rfl)
theorem dX7_ten_8 : decode cX7_ten 8 = .ok (.iload_n 2, 1) := dk_28 (dk_at dksX7_ten_0 8 rfl rfl)
theorem dX7_ten_9 : decode cX7_ten 9 = .ok (.if_icmp .ge 16, 3) := dk_162 0 16 (dk_at dksX7_ten_0 9 rfl rfl)
theorem dX7_ten_12 : decode cX7_ten 12 = .ok (.aload_n 1, 1) := dk_43 (dk_at dksX7_ten_0 12 rfl rfl)
theorem dX7_ten_13 : decode cX7_ten 13 = .ok (.bipush 10, 2) := dk_16 10 (dk_at dksX7_ten_0 13 rfl rfl)
theorem dX7_ten_15 : decode cX7_ten 15 = .ok (.iconst 0, 1) := dk_3 (dk_at dksX7_ten_0 15 rfl rfl)
theorem dX7_ten_16 : decode cX7_ten 16 = .ok (.invokevirtual 170, 3) := dk_182 0 170 (dk_at dksX7_ten_0 16 rfl rfl)
theorem dX7_ten_19 : decode cX7_ten 19 = .ok (.iinc 3 1, 3) := dk_132 3 1 (dk_at dksX7_ten_0 19 rfl rfl)
theorem dX7_ten_22 : decode cX7_ten 22 = .ok (.goto (-15), 3) := dk_167 255 241 (dk_at dksX7_ten_1 0 rfl rfl)
theorem dX7_ten_25 : decode cX7_ten 25 = .ok (.return_, 1) := dk_177 (dk_at dksX7_ten_1 3 rfl rfl)
abbrev cX7_digits : ByteArray := prog_24_method_17_code
def yX7_digits : MethodName := ⟨RX7, "digits", "(LLibraryDesk$Big;)I"⟩
def dkwX7_digits_4 : List UInt8 := [167, 255, 239, 28, 4, 96, 172]
abbrev dktX7_digits_4 : List UInt8 := dkwX7_digits_4 ++ []
def dkwX7_digits_3 : List UInt8 := [20, 0, 95, 127, 66, 33, 20, 0, 166, 148, 158, 0, 15, 33, 20, 0, 168, 109, 66, 132, 2, 1]
abbrev dktX7_digits_3 : List UInt8 := dkwX7_digits_3 ++ dktX7_digits_4
def dkwX7_digits_2 : List UInt8 := [180, 0, 19, 180, 0, 50, 154, 0, 7, 9, 167, 0, 17, 42, 180, 0, 19, 180, 0, 54, 3, 46, 133]
abbrev dktX7_digits_2 : List UInt8 := dkwX7_digits_2 ++ dktX7_digits_3
def dkwX7_digits_1 : List UInt8 := [180, 0, 50, 4, 164, 0, 19, 42, 180, 0, 19, 18, 165, 182, 0, 66, 62, 132, 2, 9, 167, 255, 232, 42]
abbrev dktX7_digits_1 : List UInt8 := dkwX7_digits_1 ++ dktX7_digits_2
def dkwX7_digits_0 : List UInt8 := [42, 180, 0, 19, 43, 182, 0, 58, 42, 180, 0, 19, 3, 181, 0, 62, 3, 61, 42, 180, 0, 19]
abbrev dktX7_digits_0 : List UInt8 := dkwX7_digits_0 ++ dktX7_digits_1
theorem dksX7_digits_0 : cX7_digits.data.toList.drop 0 = dktX7_digits_0 := by decide +kernel
theorem dksX7_digits_1 : cX7_digits.data.toList.drop 22 = dktX7_digits_1 := dk_seg dksX7_digits_0 22 rfl rfl
theorem dksX7_digits_2 : cX7_digits.data.toList.drop 46 = dktX7_digits_2 := dk_seg dksX7_digits_1 24 rfl rfl
theorem dksX7_digits_3 : cX7_digits.data.toList.drop 69 = dktX7_digits_3 := dk_seg dksX7_digits_2 23 rfl rfl
theorem dksX7_digits_4 : cX7_digits.data.toList.drop 91 = dktX7_digits_4 := dk_seg dksX7_digits_3 22 rfl rfl
theorem dX7_digits_0 : decode cX7_digits 0 = .ok (.aload_n 0, 1) := dk_42 (dk_at dksX7_digits_0 0 rfl rfl)
theorem dX7_digits_1 : decode cX7_digits 1 = .ok (.getfield 19, 3) := dk_180 0 19 (dk_at dksX7_digits_0 1 rfl rfl)
theorem dX7_digits_4 : decode cX7_digits 4 = .ok (.aload_n 1, 1) := dk_43 (dk_at dksX7_digits_0 4 rfl rfl)
theorem dX7_digits_5 : decode cX7_digits 5 = .ok (.invokevirtual 58, 3) := dk_182 0 58 (dk_at dksX7_digits_0 5 rfl rfl)
theorem dX7_digits_8 : decode cX7_digits 8 = .ok (.aload_n 0, 1) := dk_42 (dk_at dksX7_digits_0 8 rfl rfl)
theorem dX7_digits_9 : decode cX7_digits 9 = .ok (.getfield 19, 3) := dk_180 0 19 (dk_at dksX7_digits_0 9 rfl rfl)
theorem dX7_digits_12 : decode cX7_digits 12 = .ok (.iconst 0, 1) := dk_3 (dk_at dksX7_digits_0 12 rfl rfl)
theorem dX7_digits_13 : decode cX7_digits 13 = .ok (.putfield 62, 3) := dk_181 0 62 (dk_at dksX7_digits_0 13 rfl rfl)
theorem dX7_digits_16 : decode cX7_digits 16 = .ok (.iconst 0, 1) := dk_3 (dk_at dksX7_digits_0 16 rfl rfl)
theorem dX7_digits_17 : decode cX7_digits 17 = .ok (.istore_n 2, 1) := dk_61 (dk_at dksX7_digits_0 17 rfl rfl)
theorem dX7_digits_18 : decode cX7_digits 18 = .ok (.aload_n 0, 1) := dk_42 (dk_at dksX7_digits_0 18 rfl rfl)
theorem dX7_digits_19 : decode cX7_digits 19 = .ok (.getfield 19, 3) := dk_180 0 19 (dk_at dksX7_digits_0 19 rfl rfl)
theorem dX7_digits_22 : decode cX7_digits 22 = .ok (.getfield 50, 3) := dk_180 0 50 (dk_at dksX7_digits_1 0 rfl rfl)
theorem dX7_digits_25 : decode cX7_digits 25 = .ok (.iconst 1, 1) := dk_4 (dk_at dksX7_digits_1 3 rfl rfl)
theorem dX7_digits_26 : decode cX7_digits 26 = .ok (.if_icmp .le 19, 3) := dk_164 0 19 (dk_at dksX7_digits_1 4 rfl rfl)
theorem dX7_digits_29 : decode cX7_digits 29 = .ok (.aload_n 0, 1) := dk_42 (dk_at dksX7_digits_1 7 rfl rfl)
theorem dX7_digits_30 : decode cX7_digits 30 = .ok (.getfield 19, 3) := dk_180 0 19 (dk_at dksX7_digits_1 8 rfl rfl)
theorem dX7_digits_33 : decode cX7_digits 33 = .ok (.ldc 165, 2) := dk_18 165 (dk_at dksX7_digits_1 11 rfl rfl)
theorem dX7_digits_35 : decode cX7_digits 35 = .ok (.invokevirtual 66, 3) := dk_182 0 66 (dk_at dksX7_digits_1 13 rfl rfl)
theorem dX7_digits_38 : decode cX7_digits 38 = .ok (.istore_n 3, 1) := dk_62 (dk_at dksX7_digits_1 16 rfl rfl)
theorem dX7_digits_39 : decode cX7_digits 39 = .ok (.iinc 2 9, 3) := dk_132 2 9 (dk_at dksX7_digits_1 17 rfl rfl)
theorem dX7_digits_42 : decode cX7_digits 42 = .ok (.goto (-24), 3) := dk_167 255 232 (dk_at dksX7_digits_1 20 rfl rfl)
theorem dX7_digits_45 : decode cX7_digits 45 = .ok (.aload_n 0, 1) := dk_42 (dk_at dksX7_digits_1 23 rfl rfl)
theorem dX7_digits_46 : decode cX7_digits 46 = .ok (.getfield 19, 3) := dk_180 0 19 (dk_at dksX7_digits_2 0 rfl rfl)
theorem dX7_digits_49 : decode cX7_digits 49 = .ok (.getfield 50, 3) := dk_180 0 50 (dk_at dksX7_digits_2 3 rfl rfl)
theorem dX7_digits_52 : decode cX7_digits 52 = .ok (.ifCond .ne 7, 3) := dk_154 0 7 (dk_at dksX7_digits_2 6 rfl rfl)
theorem dX7_digits_55 : decode cX7_digits 55 = .ok (.lconst 0, 1) := dk_9 (dk_at dksX7_digits_2 9 rfl rfl)
theorem dX7_digits_56 : decode cX7_digits 56 = .ok (.goto 17, 3) := dk_167 0 17 (dk_at dksX7_digits_2 10 rfl rfl)
theorem dX7_digits_59 : decode cX7_digits 59 = .ok (.aload_n 0, 1) := dk_42 (dk_at dksX7_digits_2 13 rfl rfl)
theorem dX7_digits_60 : decode cX7_digits 60 = .ok (.getfield 19, 3) := dk_180 0 19 (dk_at dksX7_digits_2 14 rfl rfl)
theorem dX7_digits_63 : decode cX7_digits 63 = .ok (.getfield 54, 3) := dk_180 0 54 (dk_at dksX7_digits_2 17 rfl rfl)
theorem dX7_digits_66 : decode cX7_digits 66 = .ok (.iconst 0, 1) := dk_3 (dk_at dksX7_digits_2 20 rfl rfl)
theorem dX7_digits_67 : decode cX7_digits 67 = .ok (.iaload, 1) := dk_46 (dk_at dksX7_digits_2 21 rfl rfl)
theorem dX7_digits_68 : decode cX7_digits 68 = .ok (.i2l, 1) := dk_133 (dk_at dksX7_digits_2 22 rfl rfl)
theorem dX7_digits_69 : decode cX7_digits 69 = .ok (.ldc2_w 95, 3) := dk_20 0 95 (dk_at dksX7_digits_3 0 rfl rfl)
theorem dX7_digits_72 : decode cX7_digits 72 = .ok (.land, 1) := dk_127 (dk_at dksX7_digits_3 3 rfl rfl)
theorem dX7_digits_73 : decode cX7_digits 73 = .ok (.lstore_n 3, 1) := dk_66 (dk_at dksX7_digits_3 4 rfl rfl)
theorem dX7_digits_74 : decode cX7_digits 74 = .ok (.lload_n 3, 1) := dk_33 (dk_at dksX7_digits_3 5 rfl rfl)
theorem dX7_digits_75 : decode cX7_digits 75 = .ok (.ldc2_w 166, 3) := dk_20 0 166 (dk_at dksX7_digits_3 6 rfl rfl)
theorem dX7_digits_78 : decode cX7_digits 78 = .ok (.lcmp, 1) := dk_148 (dk_at dksX7_digits_3 9 rfl rfl)
theorem dX7_digits_79 : decode cX7_digits 79 = .ok (.ifCond .le 15, 3) := dk_158 0 15 (dk_at dksX7_digits_3 10 rfl rfl)
theorem dX7_digits_82 : decode cX7_digits 82 = .ok (.lload_n 3, 1) := dk_33 (dk_at dksX7_digits_3 13 rfl rfl)
theorem dX7_digits_83 : decode cX7_digits 83 = .ok (.ldc2_w 168, 3) := dk_20 0 168 (dk_at dksX7_digits_3 14 rfl rfl)
theorem dX7_digits_86 : decode cX7_digits 86 = .ok (.ldiv, 1) := dk_109 (dk_at dksX7_digits_3 17 rfl rfl)
theorem dX7_digits_87 : decode cX7_digits 87 = .ok (.lstore_n 3, 1) := dk_66 (dk_at dksX7_digits_3 18 rfl rfl)
theorem dX7_digits_88 : decode cX7_digits 88 = .ok (.iinc 2 1, 3) := dk_132 2 1 (dk_at dksX7_digits_3 19 rfl rfl)
theorem dX7_digits_91 : decode cX7_digits 91 = .ok (.goto (-17), 3) := dk_167 255 239 (dk_at dksX7_digits_4 0 rfl rfl)
theorem dX7_digits_94 : decode cX7_digits 94 = .ok (.iload_n 2, 1) := dk_28 (dk_at dksX7_digits_4 3 rfl rfl)
theorem dX7_digits_95 : decode cX7_digits 95 = .ok (.iconst 1, 1) := dk_4 (dk_at dksX7_digits_4 4 rfl rfl)
theorem dX7_digits_96 : decode cX7_digits 96 = .ok (.iadd, 1) := dk_96 (dk_at dksX7_digits_4 5 rfl rfl)
theorem dX7_digits_97 : decode cX7_digits 97 = .ok (.ireturn, 1) := dk_172 (dk_at dksX7_digits_4 6 rfl rfl)
theorem q514 : (Jvm.Cond.initialized "LibraryDesk$Reckone\x72") ∈ lw_all := lw_g (lw_at lw_m1 7 rfl) rfl
theorem q762 : (Jvm.Cond.instantiable "LibraryDesk$Reckone\x72" (9 : Nat)) ∈ lw_all := lw_g (lw_at lw_m2 15 rfl) rfl
theorem q764 : (Jvm.Cond.instanceMethod ({ cls := "LibraryDesk$Reckone\x72", name := "<init>", desc := "()V" } : Jvm.MethodName)) ∈ lw_all := lw_g (lw_at lw_m2 17 rfl) rfl
theorem q765 : (Jvm.Cond.code ({ cls := "LibraryDesk$Reckone\x72", name := "<init>", desc := "()V" } : Jvm.MethodName) prog_24_method_1_code (1 : Nat) (Option.none : Option Jvm.ClassFile.FieldType)) ∈ lw_all := lw_g (lw_at lw_m2 18 rfl) rfl
theorem q766 : (Jvm.Cond.methodLink "LibraryDesk$Reckone\x72" (1 : Nat) ({ cls := "java/lang/Object", name := "<init>", desc := "()V" } : Jvm.MethodName)) ∈ lw_all := lw_g (lw_at lw_m2 19 rfl) rfl
theorem q767 : (Jvm.Cond.classLink "LibraryDesk$Reckone\x72" (7 : Nat) "LibraryDesk$Big") ∈ lw_all := lw_g (lw_at lw_m2 20 rfl) rfl
theorem q769 : (Jvm.Cond.methodLinkNest "LibraryDesk$Reckone\x72" (9 : Nat) ({ cls := "LibraryDesk$Big", name := "<init>", desc := "()V" } : Jvm.MethodName) "LibraryDesk") ∈ lw_tbl := lw_at lw_m2 22 rfl
theorem q774 : (Jvm.Cond.fieldLinkNest "LibraryDesk$Reckone\x72" (54 : Nat) "LibraryDesk$Big" "word" "[I" "LibraryDesk") ∈ lw_tbl := lw_at lw_m2 27 rfl
theorem q777 : (Jvm.Cond.fieldLinkNest "LibraryDesk$Reckone\x72" (50 : Nat) "LibraryDesk$Big" "size" "I" "LibraryDesk") ∈ lw_tbl := lw_at lw_m2 30 rfl
theorem q780 : (Jvm.Cond.fieldLinkNest "LibraryDesk$Reckone\x72" (62 : Nat) "LibraryDesk$Big" "less" "Z" "LibraryDesk") ∈ lw_tbl := lw_at lw_m2 33 rfl
theorem q791 : (Jvm.Cond.fieldLink "LibraryDesk$Reckone\x72" (10 : Nat) "LibraryDesk$Reckone\x72" "quotient" "LLibraryDesk$Big;") ∈ lw_all := lw_g (lw_at lw_m2 44 rfl) rfl
theorem q793 : (Jvm.Cond.fieldLink "LibraryDesk$Reckone\x72" (16 : Nat) "LibraryDesk$Reckone\x72" "rest" "LLibraryDesk$Big;") ∈ lw_all := lw_g (lw_at lw_m2 46 rfl) rfl
theorem q795 : (Jvm.Cond.fieldLink "LibraryDesk$Reckone\x72" (19 : Nat) "LibraryDesk$Reckone\x72" "one" "LLibraryDesk$Big;") ∈ lw_all := lw_g (lw_at lw_m2 48 rfl) rfl
theorem q796 : (Jvm.Cond.fieldLink "LibraryDesk$Reckone\x72" (22 : Nat) "LibraryDesk$Reckone\x72" "two" "LLibraryDesk$Big;") ∈ lw_all := lw_g (lw_at lw_m2 49 rfl) rfl
theorem q797 : (Jvm.Cond.fieldLink "LibraryDesk$Reckone\x72" (25 : Nat) "LibraryDesk$Reckone\x72" "three" "LLibraryDesk$Big;") ∈ lw_all := lw_g (lw_at lw_m2 50 rfl) rfl
theorem q798 : (Jvm.Cond.fieldLink "LibraryDesk$Reckone\x72" (28 : Nat) "LibraryDesk$Reckone\x72" "fou\x72" "LLibraryDesk$Big;") ∈ lw_all := lw_g (lw_at lw_m2 51 rfl) rfl
theorem q799 : (Jvm.Cond.fieldLink "LibraryDesk$Reckone\x72" (31 : Nat) "LibraryDesk$Reckone\x72" "made" "LLibraryDesk$Big;") ∈ lw_all := lw_g (lw_at lw_m2 52 rfl) rfl
theorem q800 : (Jvm.Cond.fieldLink "LibraryDesk$Reckone\x72" (34 : Nat) "LibraryDesk$Reckone\x72" "diviso\x72" "LLibraryDesk$Big;") ∈ lw_all := lw_g (lw_at lw_m2 53 rfl) rfl
theorem q801 : (Jvm.Cond.fieldLink "LibraryDesk$Reckone\x72" (37 : Nat) "LibraryDesk$Reckone\x72" "dividend" "LLibraryDesk$Big;") ∈ lw_all := lw_g (lw_at lw_m2 54 rfl) rfl
theorem q802 : (Jvm.Cond.laysFinal "LibraryDesk$Reckone\x72" "LibraryDesk$Reckone\x72" "quotient" "LLibraryDesk$Big;") ∈ lw_all := lw_g (lw_at lw_m2 55 rfl) rfl
theorem q803 : (Jvm.Cond.soleField "LibraryDesk$Reckone\x72" "quotient") ∈ lw_all := lw_g (lw_at lw_m2 56 rfl) rfl
theorem q804 : (Jvm.Cond.laysFinal "LibraryDesk$Reckone\x72" "LibraryDesk$Reckone\x72" "rest" "LLibraryDesk$Big;") ∈ lw_all := lw_g (lw_at lw_m2 57 rfl) rfl
theorem q805 : (Jvm.Cond.soleField "LibraryDesk$Reckone\x72" "rest") ∈ lw_all := lw_g (lw_at lw_m2 58 rfl) rfl
theorem q806 : (Jvm.Cond.laysFinal "LibraryDesk$Reckone\x72" "LibraryDesk$Reckone\x72" "one" "LLibraryDesk$Big;") ∈ lw_all := lw_g (lw_at lw_m2 59 rfl) rfl
theorem q807 : (Jvm.Cond.soleField "LibraryDesk$Reckone\x72" "one") ∈ lw_all := lw_g (lw_at lw_m2 60 rfl) rfl
theorem q808 : (Jvm.Cond.laysFinal "LibraryDesk$Reckone\x72" "LibraryDesk$Reckone\x72" "two" "LLibraryDesk$Big;") ∈ lw_all := lw_g (lw_at lw_m2 61 rfl) rfl
theorem q809 : (Jvm.Cond.soleField "LibraryDesk$Reckone\x72" "two") ∈ lw_all := lw_g (lw_at lw_m2 62 rfl) rfl
theorem q810 : (Jvm.Cond.laysFinal "LibraryDesk$Reckone\x72" "LibraryDesk$Reckone\x72" "three" "LLibraryDesk$Big;") ∈ lw_all := lw_g (lw_at lw_m2 63 rfl) rfl
theorem q811 : (Jvm.Cond.soleField "LibraryDesk$Reckone\x72" "three") ∈ lw_all := lw_g (lw_at lw_m2 64 rfl) rfl
theorem q812 : (Jvm.Cond.laysFinal "LibraryDesk$Reckone\x72" "LibraryDesk$Reckone\x72" "fou\x72" "LLibraryDesk$Big;") ∈ lw_all := lw_g (lw_at lw_m2 65 rfl) rfl
theorem q813 : (Jvm.Cond.soleField "LibraryDesk$Reckone\x72" "fou\x72") ∈ lw_all := lw_g (lw_at lw_m2 66 rfl) rfl
theorem q814 : (Jvm.Cond.laysFinal "LibraryDesk$Reckone\x72" "LibraryDesk$Reckone\x72" "made" "LLibraryDesk$Big;") ∈ lw_all := lw_g (lw_at lw_m2 67 rfl) rfl
theorem q815 : (Jvm.Cond.soleField "LibraryDesk$Reckone\x72" "made") ∈ lw_all := lw_g (lw_at lw_m2 68 rfl) rfl
theorem q816 : (Jvm.Cond.laysFinal "LibraryDesk$Reckone\x72" "LibraryDesk$Reckone\x72" "diviso\x72" "LLibraryDesk$Big;") ∈ lw_all := lw_g (lw_at lw_m2 69 rfl) rfl
theorem q817 : (Jvm.Cond.soleField "LibraryDesk$Reckone\x72" "diviso\x72") ∈ lw_all := lw_g (lw_at lw_m2 70 rfl) rfl
theorem q818 : (Jvm.Cond.laysFinal "LibraryDesk$Reckone\x72" "LibraryDesk$Reckone\x72" "dividend" "LLibraryDesk$Big;") ∈ lw_all := lw_g (lw_at lw_m2 71 rfl) rfl
theorem q819 : (Jvm.Cond.soleField "LibraryDesk$Reckone\x72" "dividend") ∈ lw_all := lw_g (lw_at lw_m2 72 rfl) rfl
theorem q820 : (Jvm.Cond.superclass "LibraryDesk$Reckone\x72" "java/lang/Object") ∈ lw_all := lw_g (lw_at lw_m2 73 rfl) rfl
theorem q3611 : (Jvm.Cond.privateMethod ({ cls := "LibraryDesk$Reckone\x72", name := "whole", desc := "(ILLibraryDesk$Big;LLibraryDesk$Big;LLibraryDesk$Big;)V" } : Jvm.MethodName)) ∈ lw_tbl := lw_at lw_m13 224 rfl
theorem q3612 : (Jvm.Cond.instanceMethod ({ cls := "LibraryDesk$Reckone\x72", name := "whole", desc := "(ILLibraryDesk$Big;LLibraryDesk$Big;LLibraryDesk$Big;)V" } : Jvm.MethodName)) ∈ lw_all := lw_g (lw_at lw_m13 225 rfl) rfl
theorem q3613 : (Jvm.Cond.code ({ cls := "LibraryDesk$Reckone\x72", name := "whole", desc := "(ILLibraryDesk$Big;LLibraryDesk$Big;LLibraryDesk$Big;)V" } : Jvm.MethodName) prog_24_method_16_code (5 : Nat) (Option.none : Option Jvm.ClassFile.FieldType)) ∈ lw_all := lw_g (lw_at lw_m13 226 rfl) rfl
theorem q3614 : (Jvm.Cond.methodLinkNest "LibraryDesk$Reckone\x72" (124 : Nat) ({ cls := "LibraryDesk$Big", name := "add", desc := "(LLibraryDesk$Big;LLibraryDesk$Big;Z)V" } : Jvm.MethodName) "LibraryDesk") ∈ lw_tbl := lw_at lw_m13 227 rfl
theorem q3634 : (Jvm.Cond.methodLinkNest "LibraryDesk$Reckone\x72" (128 : Nat) ({ cls := "LibraryDesk$Big", name := "multiply", desc := "(LLibraryDesk$Big;LLibraryDesk$Big;)V" } : Jvm.MethodName) "LibraryDesk") ∈ lw_tbl := lw_at lw_m14 7 rfl
theorem q3638 : (Jvm.Cond.methodLink "LibraryDesk$Reckone\x72" (121 : Nat) ({ cls := "LibraryDesk$Reckone\x72", name := "divide", desc := "(LLibraryDesk$Big;LLibraryDesk$Big;)V" } : Jvm.MethodName)) ∈ lw_all := lw_g (lw_at lw_m14 11 rfl) rfl
theorem q3639 : (Jvm.Cond.privateMethod ({ cls := "LibraryDesk$Reckone\x72", name := "divide", desc := "(LLibraryDesk$Big;LLibraryDesk$Big;)V" } : Jvm.MethodName)) ∈ lw_tbl := lw_at lw_m14 12 rfl
theorem q3640 : (Jvm.Cond.instanceMethod ({ cls := "LibraryDesk$Reckone\x72", name := "divide", desc := "(LLibraryDesk$Big;LLibraryDesk$Big;)V" } : Jvm.MethodName)) ∈ lw_all := lw_g (lw_at lw_m14 13 rfl) rfl
theorem q3641 : (Jvm.Cond.code ({ cls := "LibraryDesk$Reckone\x72", name := "divide", desc := "(LLibraryDesk$Big;LLibraryDesk$Big;)V" } : Jvm.MethodName) prog_24_method_2_code (5 : Nat) (Option.none : Option Jvm.ClassFile.FieldType)) ∈ lw_all := lw_g (lw_at lw_m14 14 rfl) rfl
theorem q3642 : (Jvm.Cond.methodLinkNest "LibraryDesk$Reckone\x72" (40 : Nat) ({ cls := "LibraryDesk$Big", name := "isZero", desc := "()Z" } : Jvm.MethodName) "LibraryDesk") ∈ lw_tbl := lw_at lw_m14 15 rfl
theorem q3646 : (Jvm.Cond.methodLinkNest "LibraryDesk$Reckone\x72" (44 : Nat) ({ cls := "LibraryDesk", name := "sound", desc := "(Z)V" } : Jvm.MethodName) "LibraryDesk") ∈ lw_tbl := lw_at lw_m14 19 rfl
theorem q3654 : (Jvm.Cond.methodLinkNest "LibraryDesk$Reckone\x72" (58 : Nat) ({ cls := "LibraryDesk$Big", name := "set", desc := "(LLibraryDesk$Big;)V" } : Jvm.MethodName) "LibraryDesk") ∈ lw_tbl := lw_at lw_m14 27 rfl
theorem q3658 : (Jvm.Cond.methodLinkNest "LibraryDesk$Reckone\x72" (66 : Nat) ({ cls := "LibraryDesk$Big", name := "ove\x72", desc := "(I)I" } : Jvm.MethodName) "LibraryDesk") ∈ lw_tbl := lw_at lw_m14 31 rfl
theorem q3662 : (Jvm.Cond.methodLinkNest "LibraryDesk$Reckone\x72" (70 : Nat) ({ cls := "LibraryDesk$Big", name := "set", desc := "(J)V" } : Jvm.MethodName) "LibraryDesk") ∈ lw_tbl := lw_at lw_m14 35 rfl
theorem q3663 : (Jvm.Cond.methodLink "LibraryDesk$Reckone\x72" (73 : Nat) ({ cls := "LibraryDesk$Reckone\x72", name := "byWords", desc := "(LLibraryDesk$Big;LLibraryDesk$Big;)V" } : Jvm.MethodName)) ∈ lw_all := lw_g (lw_at lw_m14 36 rfl) rfl
theorem q3664 : (Jvm.Cond.privateMethod ({ cls := "LibraryDesk$Reckone\x72", name := "byWords", desc := "(LLibraryDesk$Big;LLibraryDesk$Big;)V" } : Jvm.MethodName)) ∈ lw_tbl := lw_at lw_m14 37 rfl
theorem q3665 : (Jvm.Cond.instanceMethod ({ cls := "LibraryDesk$Reckone\x72", name := "byWords", desc := "(LLibraryDesk$Big;LLibraryDesk$Big;)V" } : Jvm.MethodName)) ∈ lw_all := lw_g (lw_at lw_m14 38 rfl) rfl
theorem q3666 : (Jvm.Cond.code ({ cls := "LibraryDesk$Reckone\x72", name := "byWords", desc := "(LLibraryDesk$Big;LLibraryDesk$Big;)V" } : Jvm.MethodName) prog_24_method_3_code (19 : Nat) (Option.none : Option Jvm.ClassFile.FieldType)) ∈ lw_all := lw_g (lw_at lw_m14 39 rfl) rfl
theorem q3667 : (Jvm.Cond.methodLinkNest "LibraryDesk$Reckone\x72" (80 : Nat) ({ cls := "LibraryDesk$Big", name := "compareSizes", desc := "(LLibraryDesk$Big;LLibraryDesk$Big;)I" } : Jvm.MethodName) "LibraryDesk") ∈ lw_tbl := lw_at lw_m14 40 rfl
theorem q3668 : (Jvm.Cond.methodLinkNest "LibraryDesk$Reckone\x72" (84 : Nat) ({ cls := "LibraryDesk$Big", name := "zero", desc := "()V" } : Jvm.MethodName) "LibraryDesk") ∈ lw_tbl := lw_at lw_m14 41 rfl
theorem q3669 : (Jvm.Cond.methodLinkNest "LibraryDesk$Reckone\x72" (87 : Nat) ({ cls := "LibraryDesk$Big", name := "length", desc := "()I" } : Jvm.MethodName) "LibraryDesk") ∈ lw_tbl := lw_at lw_m14 42 rfl
theorem q3673 : (Jvm.Cond.methodLinkNest "LibraryDesk$Reckone\x72" (91 : Nat) ({ cls := "LibraryDesk$Big", name := "shiftLeft", desc := "(I)V" } : Jvm.MethodName) "LibraryDesk") ∈ lw_tbl := lw_at lw_m14 46 rfl
theorem q3677 : (Jvm.Cond.constantLong "LibraryDesk$Reckone\x72" (95 : Nat) (4294967295 : Int64)) ∈ lw_all := lw_g (lw_at lw_m14 50 rfl) rfl
theorem q3678 : (Jvm.Cond.methodLink "LibraryDesk$Reckone\x72" (97 : Nat) ({ cls := "LibraryDesk$Reckone\x72", name := "ove\x72", desc := "(JJ)J" } : Jvm.MethodName)) ∈ lw_all := lw_g (lw_at lw_m14 51 rfl) rfl
theorem q3679 : (Jvm.Cond.static ({ cls := "LibraryDesk$Reckone\x72", name := "ove\x72", desc := "(JJ)J" } : Jvm.MethodName)) ∈ lw_all := lw_g (lw_at lw_m14 52 rfl) rfl
theorem q3680 : (Jvm.Cond.code ({ cls := "LibraryDesk$Reckone\x72", name := "ove\x72", desc := "(JJ)J" } : Jvm.MethodName) prog_24_method_5_code (8 : Nat) (Option.some Jvm.ClassFile.FieldType.long)) ∈ lw_all := lw_g (lw_at lw_m14 53 rfl) rfl
theorem q3681 : (Jvm.Cond.methodLink "LibraryDesk$Reckone\x72" (100 : Nat) ({ cls := "LibraryDesk$Reckone\x72", name := "above", desc := "(JJ)Z" } : Jvm.MethodName)) ∈ lw_all := lw_g (lw_at lw_m14 54 rfl) rfl
theorem q3682 : (Jvm.Cond.static ({ cls := "LibraryDesk$Reckone\x72", name := "above", desc := "(JJ)Z" } : Jvm.MethodName)) ∈ lw_all := lw_g (lw_at lw_m14 55 rfl) rfl
theorem q3683 : (Jvm.Cond.code ({ cls := "LibraryDesk$Reckone\x72", name := "above", desc := "(JJ)Z" } : Jvm.MethodName) prog_24_method_4_code (4 : Nat) (Option.some Jvm.ClassFile.FieldType.boolean)) ∈ lw_all := lw_g (lw_at lw_m14 56 rfl) rfl
theorem q3684 : (Jvm.Cond.constantLong "LibraryDesk$Reckone\x72" (116 : Nat) (-9223372036854775808 : Int64)) ∈ lw_all := lw_g (lw_at lw_m14 57 rfl) rfl
theorem q3685 : (Jvm.Cond.methodLink "LibraryDesk$Reckone\x72" (104 : Nat) ({ cls := "LibraryDesk$Reckone\x72", name := "take", desc := "(IIJ)Z" } : Jvm.MethodName)) ∈ lw_all := lw_g (lw_at lw_m14 58 rfl) rfl
theorem q3686 : (Jvm.Cond.privateMethod ({ cls := "LibraryDesk$Reckone\x72", name := "take", desc := "(IIJ)Z" } : Jvm.MethodName)) ∈ lw_tbl := lw_at lw_m14 59 rfl
theorem q3687 : (Jvm.Cond.instanceMethod ({ cls := "LibraryDesk$Reckone\x72", name := "take", desc := "(IIJ)Z" } : Jvm.MethodName)) ∈ lw_all := lw_g (lw_at lw_m14 60 rfl) rfl
theorem q3688 : (Jvm.Cond.code ({ cls := "LibraryDesk$Reckone\x72", name := "take", desc := "(IIJ)Z" } : Jvm.MethodName) prog_24_method_6_code (10 : Nat) (Option.some Jvm.ClassFile.FieldType.boolean)) ∈ lw_all := lw_g (lw_at lw_m14 61 rfl) rfl
theorem q3689 : (Jvm.Cond.methodLink "LibraryDesk$Reckone\x72" (108 : Nat) ({ cls := "LibraryDesk$Reckone\x72", name := "giveBack", desc := "(II)V" } : Jvm.MethodName)) ∈ lw_all := lw_g (lw_at lw_m14 62 rfl) rfl
theorem q3690 : (Jvm.Cond.privateMethod ({ cls := "LibraryDesk$Reckone\x72", name := "giveBack", desc := "(II)V" } : Jvm.MethodName)) ∈ lw_tbl := lw_at lw_m14 63 rfl
theorem q3691 : (Jvm.Cond.instanceMethod ({ cls := "LibraryDesk$Reckone\x72", name := "giveBack", desc := "(II)V" } : Jvm.MethodName)) ∈ lw_all := lw_g (lw_at lw_m14 64 rfl) rfl
theorem q3692 : (Jvm.Cond.code ({ cls := "LibraryDesk$Reckone\x72", name := "giveBack", desc := "(II)V" } : Jvm.MethodName) prog_24_method_7_code (6 : Nat) (Option.none : Option Jvm.ClassFile.FieldType)) ∈ lw_all := lw_g (lw_at lw_m14 65 rfl) rfl
theorem q3693 : (Jvm.Cond.methodLinkNest "LibraryDesk$Reckone\x72" (77 : Nat) ({ cls := "LibraryDesk$Big", name := "trim", desc := "()V" } : Jvm.MethodName) "LibraryDesk") ∈ lw_tbl := lw_at lw_m14 66 rfl
theorem q3694 : (Jvm.Cond.methodLinkNest "LibraryDesk$Reckone\x72" (112 : Nat) ({ cls := "LibraryDesk$Big", name := "shiftRight", desc := "(I)Z" } : Jvm.MethodName) "LibraryDesk") ∈ lw_tbl := lw_at lw_m14 67 rfl
theorem q3702 : (Jvm.Cond.methodLink "LibraryDesk$Reckone\x72" (134 : Nat) ({ cls := "LibraryDesk$Reckone\x72", name := "mod", desc := "(LLibraryDesk$Big;LLibraryDesk$Big;)V" } : Jvm.MethodName)) ∈ lw_all := lw_g (lw_at lw_m14 75 rfl) rfl
theorem q3703 : (Jvm.Cond.privateMethod ({ cls := "LibraryDesk$Reckone\x72", name := "mod", desc := "(LLibraryDesk$Big;LLibraryDesk$Big;)V" } : Jvm.MethodName)) ∈ lw_tbl := lw_at lw_m14 76 rfl
theorem q3704 : (Jvm.Cond.instanceMethod ({ cls := "LibraryDesk$Reckone\x72", name := "mod", desc := "(LLibraryDesk$Big;LLibraryDesk$Big;)V" } : Jvm.MethodName)) ∈ lw_all := lw_g (lw_at lw_m14 77 rfl) rfl
theorem q3705 : (Jvm.Cond.code ({ cls := "LibraryDesk$Reckone\x72", name := "mod", desc := "(LLibraryDesk$Big;LLibraryDesk$Big;)V" } : Jvm.MethodName) prog_24_method_9_code (3 : Nat) (Option.none : Option Jvm.ClassFile.FieldType)) ∈ lw_all := lw_g (lw_at lw_m14 78 rfl) rfl
theorem q3706 : (Jvm.Cond.methodLinkNest "LibraryDesk$Reckone\x72" (118 : Nat) ({ cls := "LibraryDesk$Big", name := "sign", desc := "()I" } : Jvm.MethodName) "LibraryDesk") ∈ lw_tbl := lw_at lw_m14 79 rfl
theorem q3707 : (Jvm.Cond.methodLink "LibraryDesk$Reckone\x72" (140 : Nat) ({ cls := "LibraryDesk$Reckone\x72", name := "gcd", desc := "(LLibraryDesk$Big;LLibraryDesk$Big;)V" } : Jvm.MethodName)) ∈ lw_all := lw_g (lw_at lw_m14 80 rfl) rfl
theorem q3708 : (Jvm.Cond.privateMethod ({ cls := "LibraryDesk$Reckone\x72", name := "gcd", desc := "(LLibraryDesk$Big;LLibraryDesk$Big;)V" } : Jvm.MethodName)) ∈ lw_tbl := lw_at lw_m14 81 rfl
theorem q3709 : (Jvm.Cond.instanceMethod ({ cls := "LibraryDesk$Reckone\x72", name := "gcd", desc := "(LLibraryDesk$Big;LLibraryDesk$Big;)V" } : Jvm.MethodName)) ∈ lw_all := lw_g (lw_at lw_m14 82 rfl) rfl
theorem q3710 : (Jvm.Cond.code ({ cls := "LibraryDesk$Reckone\x72", name := "gcd", desc := "(LLibraryDesk$Big;LLibraryDesk$Big;)V" } : Jvm.MethodName) prog_24_method_10_code (3 : Nat) (Option.none : Option Jvm.ClassFile.FieldType)) ∈ lw_all := lw_g (lw_at lw_m14 83 rfl) rfl
theorem q3711 : (Jvm.Cond.methodLink "LibraryDesk$Reckone\x72" (143 : Nat) ({ cls := "LibraryDesk$Reckone\x72", name := "small", desc := "(LLibraryDesk$Big;II)I" } : Jvm.MethodName)) ∈ lw_all := lw_g (lw_at lw_m14 84 rfl) rfl
theorem q3712 : (Jvm.Cond.static ({ cls := "LibraryDesk$Reckone\x72", name := "small", desc := "(LLibraryDesk$Big;II)I" } : Jvm.MethodName)) ∈ lw_all := lw_g (lw_at lw_m14 85 rfl) rfl
theorem q3713 : (Jvm.Cond.code ({ cls := "LibraryDesk$Reckone\x72", name := "small", desc := "(LLibraryDesk$Big;II)I" } : Jvm.MethodName) prog_24_method_11_code (4 : Nat) (Option.some Jvm.ClassFile.FieldType.int)) ∈ lw_all := lw_g (lw_at lw_m14 86 rfl) rfl
theorem q3714 : (Jvm.Cond.methodLink "LibraryDesk$Reckone\x72" (147 : Nat) ({ cls := "LibraryDesk$Reckone\x72", name := "powe\x72", desc := "(LLibraryDesk$Big;I)V" } : Jvm.MethodName)) ∈ lw_all := lw_g (lw_at lw_m14 87 rfl) rfl
theorem q3715 : (Jvm.Cond.privateMethod ({ cls := "LibraryDesk$Reckone\x72", name := "powe\x72", desc := "(LLibraryDesk$Big;I)V" } : Jvm.MethodName)) ∈ lw_tbl := lw_at lw_m14 88 rfl
theorem q3716 : (Jvm.Cond.instanceMethod ({ cls := "LibraryDesk$Reckone\x72", name := "powe\x72", desc := "(LLibraryDesk$Big;I)V" } : Jvm.MethodName)) ∈ lw_all := lw_g (lw_at lw_m14 89 rfl) rfl
theorem q3717 : (Jvm.Cond.code ({ cls := "LibraryDesk$Reckone\x72", name := "powe\x72", desc := "(LLibraryDesk$Big;I)V" } : Jvm.MethodName) prog_24_method_12_code (4 : Nat) (Option.none : Option Jvm.ClassFile.FieldType)) ∈ lw_all := lw_g (lw_at lw_m14 90 rfl) rfl
theorem q3718 : (Jvm.Cond.methodLink "LibraryDesk$Reckone\x72" (131 : Nat) ({ cls := "LibraryDesk$Reckone\x72", name := "check", desc := "(LLibraryDesk$Big;)V" } : Jvm.MethodName)) ∈ lw_all := lw_g (lw_at lw_m14 91 rfl) rfl
theorem q3719 : (Jvm.Cond.static ({ cls := "LibraryDesk$Reckone\x72", name := "check", desc := "(LLibraryDesk$Big;)V" } : Jvm.MethodName)) ∈ lw_all := lw_g (lw_at lw_m14 92 rfl) rfl
theorem q3720 : (Jvm.Cond.code ({ cls := "LibraryDesk$Reckone\x72", name := "check", desc := "(LLibraryDesk$Big;)V" } : Jvm.MethodName) prog_24_method_8_code (1 : Nat) (Option.none : Option Jvm.ClassFile.FieldType)) ∈ lw_all := lw_g (lw_at lw_m14 93 rfl) rfl
theorem q3721 : (Jvm.Cond.methodLink "LibraryDesk$Reckone\x72" (151 : Nat) ({ cls := "LibraryDesk$Reckone\x72", name := "powerMod", desc := "(LLibraryDesk$Big;LLibraryDesk$Big;LLibraryDesk$Big;)V" } : Jvm.MethodName)) ∈ lw_all := lw_g (lw_at lw_m14 94 rfl) rfl
theorem q3722 : (Jvm.Cond.privateMethod ({ cls := "LibraryDesk$Reckone\x72", name := "powerMod", desc := "(LLibraryDesk$Big;LLibraryDesk$Big;LLibraryDesk$Big;)V" } : Jvm.MethodName)) ∈ lw_tbl := lw_at lw_m14 95 rfl
theorem q3723 : (Jvm.Cond.instanceMethod ({ cls := "LibraryDesk$Reckone\x72", name := "powerMod", desc := "(LLibraryDesk$Big;LLibraryDesk$Big;LLibraryDesk$Big;)V" } : Jvm.MethodName)) ∈ lw_all := lw_g (lw_at lw_m14 96 rfl) rfl
theorem q3724 : (Jvm.Cond.code ({ cls := "LibraryDesk$Reckone\x72", name := "powerMod", desc := "(LLibraryDesk$Big;LLibraryDesk$Big;LLibraryDesk$Big;)V" } : Jvm.MethodName) prog_24_method_13_code (5 : Nat) (Option.none : Option Jvm.ClassFile.FieldType)) ∈ lw_all := lw_g (lw_at lw_m14 97 rfl) rfl
theorem q3725 : (Jvm.Cond.methodLinkNest "LibraryDesk$Reckone\x72" (137 : Nat) ({ cls := "LibraryDesk$Big", name := "bit", desc := "(I)Z" } : Jvm.MethodName) "LibraryDesk") ∈ lw_tbl := lw_at lw_m14 98 rfl
theorem q3726 : (Jvm.Cond.methodLink "LibraryDesk$Reckone\x72" (155 : Nat) ({ cls := "LibraryDesk$Reckone\x72", name := "root", desc := "(LLibraryDesk$Big;)V" } : Jvm.MethodName)) ∈ lw_all := lw_g (lw_at lw_m14 99 rfl) rfl
theorem q3727 : (Jvm.Cond.privateMethod ({ cls := "LibraryDesk$Reckone\x72", name := "root", desc := "(LLibraryDesk$Big;)V" } : Jvm.MethodName)) ∈ lw_tbl := lw_at lw_m14 100 rfl
theorem q3728 : (Jvm.Cond.instanceMethod ({ cls := "LibraryDesk$Reckone\x72", name := "root", desc := "(LLibraryDesk$Big;)V" } : Jvm.MethodName)) ∈ lw_all := lw_g (lw_at lw_m14 101 rfl) rfl
theorem q3729 : (Jvm.Cond.code ({ cls := "LibraryDesk$Reckone\x72", name := "root", desc := "(LLibraryDesk$Big;)V" } : Jvm.MethodName) prog_24_method_14_code (3 : Nat) (Option.none : Option Jvm.ClassFile.FieldType)) ∈ lw_all := lw_g (lw_at lw_m14 102 rfl) rfl
theorem q3730 : (Jvm.Cond.methodLink "LibraryDesk$Reckone\x72" (158 : Nat) ({ cls := "LibraryDesk$Reckone\x72", name := "shift", desc := "(LLibraryDesk$Big;I)V" } : Jvm.MethodName)) ∈ lw_all := lw_g (lw_at lw_m14 103 rfl) rfl
theorem q3731 : (Jvm.Cond.privateMethod ({ cls := "LibraryDesk$Reckone\x72", name := "shift", desc := "(LLibraryDesk$Big;I)V" } : Jvm.MethodName)) ∈ lw_tbl := lw_at lw_m14 104 rfl
theorem q3732 : (Jvm.Cond.instanceMethod ({ cls := "LibraryDesk$Reckone\x72", name := "shift", desc := "(LLibraryDesk$Big;I)V" } : Jvm.MethodName)) ∈ lw_all := lw_g (lw_at lw_m14 105 rfl) rfl
theorem q3733 : (Jvm.Cond.code ({ cls := "LibraryDesk$Reckone\x72", name := "shift", desc := "(LLibraryDesk$Big;I)V" } : Jvm.MethodName) prog_24_method_15_code (4 : Nat) (Option.none : Option Jvm.ClassFile.FieldType)) ∈ lw_all := lw_g (lw_at lw_m14 106 rfl) rfl
theorem q3734 : (Jvm.Cond.methodLinkNest "LibraryDesk$Reckone\x72" (161 : Nat) ({ cls := "LibraryDesk$Big", name := "logic", desc := "(LLibraryDesk$Big;LLibraryDesk$Big;I)V" } : Jvm.MethodName) "LibraryDesk") ∈ lw_tbl := lw_at lw_m14 107 rfl
theorem q3762 : (Jvm.Cond.privateMethod ({ cls := "LibraryDesk$Reckone\x72", name := "ten", desc := "(LLibraryDesk$Big;I)V" } : Jvm.MethodName)) ∈ lw_tbl := lw_at lw_m14 135 rfl
theorem q3763 : (Jvm.Cond.instanceMethod ({ cls := "LibraryDesk$Reckone\x72", name := "ten", desc := "(LLibraryDesk$Big;I)V" } : Jvm.MethodName)) ∈ lw_all := lw_g (lw_at lw_m14 136 rfl) rfl
theorem q3764 : (Jvm.Cond.code ({ cls := "LibraryDesk$Reckone\x72", name := "ten", desc := "(LLibraryDesk$Big;I)V" } : Jvm.MethodName) prog_24_method_18_code (4 : Nat) (Option.none : Option Jvm.ClassFile.FieldType)) ∈ lw_all := lw_g (lw_at lw_m14 137 rfl) rfl
theorem q3765 : (Jvm.Cond.methodLinkNest "LibraryDesk$Reckone\x72" (170 : Nat) ({ cls := "LibraryDesk$Big", name := "times", desc := "(II)V" } : Jvm.MethodName) "LibraryDesk") ∈ lw_tbl := lw_at lw_m14 138 rfl
theorem q3800 : (Jvm.Cond.privateMethod ({ cls := "LibraryDesk$Reckone\x72", name := "digits", desc := "(LLibraryDesk$Big;)I" } : Jvm.MethodName)) ∈ lw_tbl := lw_at lw_m14 173 rfl
theorem q3801 : (Jvm.Cond.instanceMethod ({ cls := "LibraryDesk$Reckone\x72", name := "digits", desc := "(LLibraryDesk$Big;)I" } : Jvm.MethodName)) ∈ lw_all := lw_g (lw_at lw_m14 174 rfl) rfl
theorem q3802 : (Jvm.Cond.code ({ cls := "LibraryDesk$Reckone\x72", name := "digits", desc := "(LLibraryDesk$Big;)I" } : Jvm.MethodName) prog_24_method_17_code (5 : Nat) (Option.some Jvm.ClassFile.FieldType.int)) ∈ lw_all := lw_g (lw_at lw_m14 175 rfl) rfl
theorem q3803 : (Jvm.Cond.constant "LibraryDesk$Reckone\x72" (165 : Nat) (1000000000 : Int32)) ∈ lw_all := lw_g (lw_at lw_m14 176 rfl) rfl
theorem q3804 : (Jvm.Cond.constantLong "LibraryDesk$Reckone\x72" (166 : Nat) (9 : Int64)) ∈ lw_all := lw_g (lw_at lw_m14 177 rfl) rfl
theorem q3805 : (Jvm.Cond.constantLong "LibraryDesk$Reckone\x72" (168 : Nat) (10 : Int64)) ∈ lw_all := lw_g (lw_at lw_m14 178 rfl) rfl
theorem q6113 : (Jvm.Cond.castable "LibraryDesk$Reckone\x72" "java/lang/Object") ∈ lw_tbl := lw_at lw_m24 86 rfl
theorem in_X7 : ∀ w ∈ wsX70, w ∈ lw_all := lw_in wsX70 [802, 804, 806, 808, 810, 812, 814, 816, 818] (by decide +kernel) (by decide +kernel)

/-! LibraryDesk$Big -/
set_option maxRecDepth 100000
def RX8 : String := "LibraryDesk$Big"
def TX8 : u_T := fun k => match k with
  | 0 => ("LibraryDesk$Big", "word", "[I", true)
  | 1 => ("LibraryDesk$Big", "size", "I", false)
  | _ => ("LibraryDesk$Big", "less", "Z", false)
def tyX8 : Nat → FieldType := fun k => match k with
  | 0 => .array .int
  | 1 => .int
  | _ => .boolean
abbrev wsX80 : List Cond := u_ws RX8 TX8 3
theorem nmX8 : ∀ a, a < 3 → ∀ b, b < 3 → a ≠ b → (TX8 a).2.1 ≠ (TX8 b).2.1 := by decide +kernel
theorem tyX8_ok : ∀ k, k < 3 → parseFieldDescriptor (TX8 k).2.2.1 = some (tyX8 k) := by decide +kernel
abbrev cX8_init : ByteArray := prog_2_method_1_code
def yX8_init : MethodName := ⟨RX8, "<init>", "()V"⟩
def dkwX8_init_0 : List UInt8 := [42, 183, 0, 1, 42, 17, 0, 200, 188, 10, 181, 0, 9, 177]
abbrev dktX8_init_0 : List UInt8 := dkwX8_init_0 ++ []
theorem dksX8_init_0 : cX8_init.data.toList.drop 0 = dktX8_init_0 := by decide +kernel
theorem dX8_init_0 : decode cX8_init 0 = .ok (.aload_n 0, 1) := dk_42 (dk_at dksX8_init_0 0 rfl rfl)
theorem dX8_init_1 : decode cX8_init 1 = .ok (.invokespecial 1, 3) := dk_183 0 1 (dk_at dksX8_init_0 1 rfl rfl)
theorem dX8_init_4 : decode cX8_init 4 = .ok (.aload_n 0, 1) := dk_42 (dk_at dksX8_init_0 4 rfl rfl)
theorem dX8_init_5 : decode cX8_init 5 = .ok (.sipush 200, 3) := dk_17 0 200 (dk_at dksX8_init_0 5 rfl rfl)
theorem dX8_init_8 : decode cX8_init 8 = .ok (.newarray .int, 2) := dk_188_10 (dk_at dksX8_init_0 8 rfl rfl)
theorem dX8_init_10 : decode cX8_init 10 = .ok (.putfield 9, 3) := dk_181 0 9 (dk_at dksX8_init_0 10 rfl rfl)
theorem dX8_init_13 : decode cX8_init 13 = .ok (.return_, 1) := dk_177 (dk_at dksX8_init_0 13 rfl rfl)
abbrev cX8_zero : ByteArray := prog_2_method_2_code
def yX8_zero : MethodName := ⟨RX8, "zero", "()V"⟩
def dkwX8_zero_0 : List UInt8 := [42, 3, 181, 0, 13, 42, 3, 181, 0, 17, 177]
abbrev dktX8_zero_0 : List UInt8 := dkwX8_zero_0 ++ []
theorem dksX8_zero_0 : cX8_zero.data.toList.drop 0 = dktX8_zero_0 := by decide +kernel
theorem dX8_zero_0 : decode cX8_zero 0 = .ok (.aload_n 0, 1) := dk_42 (dk_at dksX8_zero_0 0 rfl rfl)
theorem dX8_zero_1 : decode cX8_zero 1 = .ok (.iconst 0, 1) := dk_3 (dk_at dksX8_zero_0 1 rfl rfl)
theorem dX8_zero_2 : decode cX8_zero 2 = .ok (.putfield 13, 3) := dk_181 0 13 (dk_at dksX8_zero_0 2 rfl rfl)
theorem dX8_zero_5 : decode cX8_zero 5 = .ok (.aload_n 0, 1) := dk_42 (dk_at dksX8_zero_0 5 rfl rfl)
theorem dX8_zero_6 : decode cX8_zero 6 = .ok (.iconst 0, 1) := dk_3 (dk_at dksX8_zero_0 6 rfl rfl)
theorem dX8_zero_7 : decode cX8_zero 7 = .ok (.putfield 17, 3) := dk_181 0 17 (dk_at dksX8_zero_0 7 rfl rfl)
theorem dX8_zero_10 : decode cX8_zero 10 = .ok (.return_, 1) := dk_177 (dk_at dksX8_zero_0 10 rfl rfl)
abbrev cX8_set : ByteArray := prog_2_method_6_code
def yX8_set : MethodName := ⟨RX8, "set", "(J)V"⟩
def dkwX8_set_3 : List UInt8 := [167, 0, 4, 3, 181, 0, 13, 177]
abbrev dktX8_set_3 : List UInt8 := dkwX8_set_3 ++ []
def dkwX8_set_2 : List UInt8 := [42, 42, 180, 0, 9, 4, 46, 153, 0, 7, 5, 167, 0, 17, 42, 180, 0, 9, 3, 46, 153, 0, 7, 4]
abbrev dktX8_set_2 : List UInt8 := dkwX8_set_2 ++ dktX8_set_3
def dkwX8_set_1 : List UInt8 := [167, 0, 4, 31, 66, 42, 180, 0, 9, 3, 33, 136, 79, 42, 180, 0, 9, 4, 33, 16, 32, 125, 136, 79]
abbrev dktX8_set_1 : List UInt8 := dkwX8_set_1 ++ dktX8_set_2
def dkwX8_set_0 : List UInt8 := [42, 31, 9, 148, 156, 0, 7, 4, 167, 0, 4, 3, 181, 0, 17, 42, 180, 0, 17, 153, 0, 8, 31, 117]
abbrev dktX8_set_0 : List UInt8 := dkwX8_set_0 ++ dktX8_set_1
theorem dksX8_set_0 : cX8_set.data.toList.drop 0 = dktX8_set_0 := by decide +kernel
theorem dksX8_set_1 : cX8_set.data.toList.drop 24 = dktX8_set_1 := dk_seg dksX8_set_0 24 rfl rfl
theorem dksX8_set_2 : cX8_set.data.toList.drop 48 = dktX8_set_2 := dk_seg dksX8_set_1 24 rfl rfl
theorem dksX8_set_3 : cX8_set.data.toList.drop 72 = dktX8_set_3 := dk_seg dksX8_set_2 24 rfl rfl
theorem dX8_set_0 : decode cX8_set 0 = .ok (.aload_n 0, 1) := dk_42 (dk_at dksX8_set_0 0 rfl rfl)
theorem dX8_set_1 : decode cX8_set 1 = .ok (.lload_n 1, 1) := dk_31 (dk_at dksX8_set_0 1 rfl rfl)
theorem dX8_set_2 : decode cX8_set 2 = .ok (.lconst 0, 1) := dk_9 (dk_at dksX8_set_0 2 rfl rfl)
theorem dX8_set_3 : decode cX8_set 3 = .ok (.lcmp, 1) := dk_148 (dk_at dksX8_set_0 3 rfl rfl)
theorem dX8_set_4 : decode cX8_set 4 = .ok (.ifCond .ge 7, 3) := dk_156 0 7 (dk_at dksX8_set_0 4 rfl rfl)
theorem dX8_set_7 : decode cX8_set 7 = .ok (.iconst 1, 1) := dk_4 (dk_at dksX8_set_0 7 rfl rfl)
theorem dX8_set_8 : decode cX8_set 8 = .ok (.goto 4, 3) := dk_167 0 4 (dk_at dksX8_set_0 8 rfl rfl)
theorem dX8_set_11 : decode cX8_set 11 = .ok (.iconst 0, 1) := dk_3 (dk_at dksX8_set_0 11 rfl rfl)
theorem dX8_set_12 : decode cX8_set 12 = .ok (.putfield 17, 3) := dk_181 0 17 (dk_at dksX8_set_0 12 rfl rfl)
theorem dX8_set_15 : decode cX8_set 15 = .ok (.aload_n 0, 1) := dk_42 (dk_at dksX8_set_0 15 rfl rfl)
theorem dX8_set_16 : decode cX8_set 16 = .ok (.getfield 17, 3) := dk_180 0 17 (dk_at dksX8_set_0 16 rfl rfl)
theorem dX8_set_19 : decode cX8_set 19 = .ok (.ifCond .eq 8, 3) := dk_153 0 8 (dk_at dksX8_set_0 19 rfl rfl)
theorem dX8_set_22 : decode cX8_set 22 = .ok (.lload_n 1, 1) := dk_31 (dk_at dksX8_set_0 22 rfl rfl)
theorem dX8_set_23 : decode cX8_set 23 = .ok (.lneg, 1) := dk_117 (dk_at dksX8_set_0 23 rfl rfl)
theorem dX8_set_24 : decode cX8_set 24 = .ok (.goto 4, 3) := dk_167 0 4 (dk_at dksX8_set_1 0 rfl rfl)
theorem dX8_set_27 : decode cX8_set 27 = .ok (.lload_n 1, 1) := dk_31 (dk_at dksX8_set_1 3 rfl rfl)
theorem dX8_set_28 : decode cX8_set 28 = .ok (.lstore_n 3, 1) := dk_66 (dk_at dksX8_set_1 4 rfl rfl)
theorem dX8_set_29 : decode cX8_set 29 = .ok (.aload_n 0, 1) := dk_42 (dk_at dksX8_set_1 5 rfl rfl)
theorem dX8_set_30 : decode cX8_set 30 = .ok (.getfield 9, 3) := dk_180 0 9 (dk_at dksX8_set_1 6 rfl rfl)
theorem dX8_set_33 : decode cX8_set 33 = .ok (.iconst 0, 1) := dk_3 (dk_at dksX8_set_1 9 rfl rfl)
theorem dX8_set_34 : decode cX8_set 34 = .ok (.lload_n 3, 1) := dk_33 (dk_at dksX8_set_1 10 rfl rfl)
theorem dX8_set_35 : decode cX8_set 35 = .ok (.l2i, 1) := dk_136 (dk_at dksX8_set_1 11 rfl rfl)
theorem dX8_set_36 : decode cX8_set 36 = .ok (.iastore, 1) := dk_79 (dk_at dksX8_set_1 12 rfl rfl)
theorem dX8_set_37 : decode cX8_set 37 = .ok (.aload_n 0, 1) := dk_42 (dk_at dksX8_set_1 13 rfl rfl)
theorem dX8_set_38 : decode cX8_set 38 = .ok (.getfield 9, 3) := dk_180 0 9 (dk_at dksX8_set_1 14 rfl rfl)
theorem dX8_set_41 : decode cX8_set 41 = .ok (.iconst 1, 1) := dk_4 (dk_at dksX8_set_1 17 rfl rfl)
theorem dX8_set_42 : decode cX8_set 42 = .ok (.lload_n 3, 1) := dk_33 (dk_at dksX8_set_1 18 rfl rfl)
theorem dX8_set_43 : decode cX8_set 43 = .ok (.bipush 32, 2) := dk_16 32 (dk_at dksX8_set_1 19 rfl rfl)
theorem dX8_set_45 : decode cX8_set 45 = .ok (.lushr, 1) := dk_125 (dk_at dksX8_set_1 21 rfl rfl)
theorem dX8_set_46 : decode cX8_set 46 = .ok (.l2i, 1) := dk_136 (dk_at dksX8_set_1 22 rfl rfl)
theorem dX8_set_47 : decode cX8_set 47 = .ok (.iastore, 1) := dk_79 (dk_at dksX8_set_1 23 rfl rfl)
theorem dX8_set_48 : decode cX8_set 48 = .ok (.aload_n 0, 1) := dk_42 (dk_at dksX8_set_2 0 rfl rfl)
theorem dX8_set_49 : decode cX8_set 49 = .ok (.aload_n 0, 1) := dk_42 (dk_at dksX8_set_2 1 rfl rfl)
theorem dX8_set_50 : decode cX8_set 50 = .ok (.getfield 9, 3) := dk_180 0 9 (dk_at dksX8_set_2 2 rfl rfl)
theorem dX8_set_53 : decode cX8_set 53 = .ok (.iconst 1, 1) := dk_4 (dk_at dksX8_set_2 5 rfl rfl)
theorem dX8_set_54 : decode cX8_set 54 = .ok (.iaload, 1) := dk_46 (dk_at dksX8_set_2 6 rfl rfl)
theorem dX8_set_55 : decode cX8_set 55 = .ok (.ifCond .eq 7, 3) := dk_153 0 7 (dk_at dksX8_set_2 7 rfl rfl)
theorem dX8_set_58 : decode cX8_set 58 = .ok (.iconst 2, 1) := dk_5 (dk_at dksX8_set_2 10 rfl rfl)
theorem dX8_set_59 : decode cX8_set 59 = .ok (.goto 17, 3) := dk_167 0 17 (dk_at dksX8_set_2 11 rfl rfl)
theorem dX8_set_62 : decode cX8_set 62 = .ok (.aload_n 0, 1) := dk_42 (dk_at dksX8_set_2 14 rfl rfl)
theorem dX8_set_63 : decode cX8_set 63 = .ok (.getfield 9, 3) := dk_180 0 9 (dk_at dksX8_set_2 15 rfl rfl)
theorem dX8_set_66 : decode cX8_set 66 = .ok (.iconst 0, 1) := dk_3 (dk_at dksX8_set_2 18 rfl rfl)
theorem dX8_set_67 : decode cX8_set 67 = .ok (.iaload, 1) := dk_46 (dk_at dksX8_set_2 19 rfl rfl)
theorem dX8_set_68 : decode cX8_set 68 = .ok (.ifCond .eq 7, 3) := dk_153 0 7 (dk_at dksX8_set_2 20 rfl rfl)
theorem dX8_set_71 : decode cX8_set 71 = .ok (.iconst 1, 1) := dk_4 (dk_at dksX8_set_2 23 rfl rfl)
theorem dX8_set_72 : decode cX8_set 72 = .ok (.goto 4, 3) := dk_167 0 4 (dk_at dksX8_set_3 0 rfl rfl)
theorem dX8_set_75 : decode cX8_set 75 = .ok (.iconst 0, 1) := dk_3 (dk_at dksX8_set_3 3 rfl rfl)
theorem dX8_set_76 : decode cX8_set 76 = .ok (.putfield 13, 3) := dk_181 0 13 (dk_at dksX8_set_3 4 rfl rfl)
theorem dX8_set_79 : decode cX8_set 79 = .ok (.return_, 1) := dk_177 (dk_at dksX8_set_3 7 rfl rfl)
abbrev cX8_sign : ByteArray := prog_2_method_4_code
def yX8_sign : MethodName := ⟨RX8, "sign", "()I"⟩
def dkwX8_sign_0 : List UInt8 := [42, 180, 0, 13, 154, 0, 7, 3, 167, 0, 15, 42, 180, 0, 17, 153, 0, 7, 2, 167, 0, 4, 4, 172]
abbrev dktX8_sign_0 : List UInt8 := dkwX8_sign_0 ++ []
theorem dksX8_sign_0 : cX8_sign.data.toList.drop 0 = dktX8_sign_0 := by decide +kernel
theorem dX8_sign_0 : decode cX8_sign 0 = .ok (.aload_n 0, 1) := dk_42 (dk_at dksX8_sign_0 0 rfl rfl)
theorem dX8_sign_1 : decode cX8_sign 1 = .ok (.getfield 13, 3) := dk_180 0 13 (dk_at dksX8_sign_0 1 rfl rfl)
theorem dX8_sign_4 : decode cX8_sign 4 = .ok (.ifCond .ne 7, 3) := dk_154 0 7 (dk_at dksX8_sign_0 4 rfl rfl)
theorem dX8_sign_7 : decode cX8_sign 7 = .ok (.iconst 0, 1) := dk_3 (dk_at dksX8_sign_0 7 rfl rfl)
theorem dX8_sign_8 : decode cX8_sign 8 = .ok (.goto 15, 3) := dk_167 0 15 (dk_at dksX8_sign_0 8 rfl rfl)
theorem dX8_sign_11 : decode cX8_sign 11 = .ok (.aload_n 0, 1) := dk_42 (dk_at dksX8_sign_0 11 rfl rfl)
theorem dX8_sign_12 : decode cX8_sign 12 = .ok (.getfield 17, 3) := dk_180 0 17 (dk_at dksX8_sign_0 12 rfl rfl)
theorem dX8_sign_15 : decode cX8_sign 15 = .ok (.ifCond .eq 7, 3) := dk_153 0 7 (dk_at dksX8_sign_0 15 rfl rfl)
theorem dX8_sign_18 : decode cX8_sign 18 = .ok (.iconst (-1), 1) := dk_2 (dk_at dksX8_sign_0 18 rfl rfl)
theorem dX8_sign_19 : decode cX8_sign 19 = .ok (.goto 4, 3) := dk_167 0 4 (dk_at dksX8_sign_0 19 rfl rfl)
theorem dX8_sign_22 : decode cX8_sign 22 = .ok (.iconst 1, 1) := dk_4 (dk_at dksX8_sign_0 22 rfl rfl)
theorem dX8_sign_23 : decode cX8_sign 23 = .ok (.ireturn, 1) := dk_172 (dk_at dksX8_sign_0 23 rfl rfl)
abbrev cX8_add : ByteArray := prog_2_method_14_code
def yX8_add : MethodName := ⟨RX8, "add", "(LLibraryDesk$Big;LLibraryDesk$Big;Z)V"⟩
def dkwX8_add_3 : List UInt8 := [182, 0, 38, 42, 21, 5, 181, 0, 17, 42, 182, 0, 31, 177]
abbrev dktX8_add_3 : List UInt8 := dkwX8_add_3 ++ []
def dkwX8_add_2 : List UInt8 := [184, 0, 27, 155, 0, 18, 42, 43, 44, 182, 0, 38, 42, 21, 4, 181, 0, 17, 167, 0, 15, 42, 44, 43]
abbrev dktX8_add_2 : List UInt8 := dkwX8_add_2 ++ dktX8_add_3
def dkwX8_add_1 : List UInt8 := [21, 5, 160, 0, 18, 42, 43, 44, 182, 0, 34, 42, 21, 4, 181, 0, 17, 167, 0, 38, 43, 44]
abbrev dktX8_add_1 : List UInt8 := dkwX8_add_1 ++ dktX8_add_2
def dkwX8_add_0 : List UInt8 := [43, 180, 0, 17, 54, 4, 44, 180, 0, 17, 29, 159, 0, 7, 4, 167, 0, 4, 3, 54, 5, 21, 4]
abbrev dktX8_add_0 : List UInt8 := dkwX8_add_0 ++ dktX8_add_1
theorem dksX8_add_0 : cX8_add.data.toList.drop 0 = dktX8_add_0 := by decide +kernel
theorem dksX8_add_1 : cX8_add.data.toList.drop 23 = dktX8_add_1 := dk_seg dksX8_add_0 23 rfl rfl
theorem dksX8_add_2 : cX8_add.data.toList.drop 45 = dktX8_add_2 := dk_seg dksX8_add_1 22 rfl rfl
theorem dksX8_add_3 : cX8_add.data.toList.drop 69 = dktX8_add_3 := dk_seg dksX8_add_2 24 rfl rfl
theorem dX8_add_0 : decode cX8_add 0 = .ok (.aload_n 1, 1) := dk_43 (dk_at dksX8_add_0 0 rfl rfl)
theorem dX8_add_1 : decode cX8_add 1 = .ok (.getfield 17, 3) := dk_180 0 17 (dk_at dksX8_add_0 1 rfl rfl)
theorem dX8_add_4 : decode cX8_add 4 = .ok (.istore 4, 2) := dk_54 4 (dk_at dksX8_add_0 4 rfl rfl)
theorem dX8_add_6 : decode cX8_add 6 = .ok (.aload_n 2, 1) := dk_44 (dk_at dksX8_add_0 6 rfl rfl)
theorem dX8_add_7 : decode cX8_add 7 = .ok (.getfield 17, 3) := dk_180 0 17 (dk_at dksX8_add_0 7 rfl rfl)
theorem dX8_add_10 : decode cX8_add 10 = .ok (.iload_n 3, 1) := dk_29 (dk_at dksX8_add_0 10 rfl rfl)
theorem dX8_add_11 : decode cX8_add 11 = .ok (.if_icmp .eq 7, 3) := dk_159 0 7 (dk_at dksX8_add_0 11 rfl rfl)
theorem dX8_add_14 : decode cX8_add 14 = .ok (.iconst 1, 1) := dk_4 (dk_at dksX8_add_0 14 rfl rfl)
theorem dX8_add_15 : decode cX8_add 15 = .ok (.goto 4, 3) := dk_167 0 4 (dk_at dksX8_add_0 15 rfl rfl)
theorem dX8_add_18 : decode cX8_add 18 = .ok (.iconst 0, 1) := dk_3 (dk_at dksX8_add_0 18 rfl rfl)
theorem dX8_add_19 : decode cX8_add 19 = .ok (.istore 5, 2) := dk_54 5 (dk_at dksX8_add_0 19 rfl rfl)
theorem dX8_add_21 : decode cX8_add 21 = .ok (.iload 4, 2) := dk_21 4 (dk_at dksX8_add_0 21 rfl rfl)
theorem dX8_add_23 : decode cX8_add 23 = .ok (.iload 5, 2) := dk_21 5 (dk_at dksX8_add_1 0 rfl rfl)
theorem dX8_add_25 : decode cX8_add 25 = .ok (.if_icmp .ne 18, 3) := dk_160 0 18 (dk_at dksX8_add_1 2 rfl rfl)
theorem dX8_add_28 : decode cX8_add 28 = .ok (.aload_n 0, 1) := dk_42 (dk_at dksX8_add_1 5 rfl rfl)
theorem dX8_add_29 : decode cX8_add 29 = .ok (.aload_n 1, 1) := dk_43 (dk_at dksX8_add_1 6 rfl rfl)
theorem dX8_add_30 : decode cX8_add 30 = .ok (.aload_n 2, 1) := dk_44 (dk_at dksX8_add_1 7 rfl rfl)
theorem dX8_add_31 : decode cX8_add 31 = .ok (.invokevirtual 34, 3) := dk_182 0 34 (dk_at dksX8_add_1 8 rfl rfl)
theorem dX8_add_34 : decode cX8_add 34 = .ok (.aload_n 0, 1) := dk_42 (dk_at dksX8_add_1 11 rfl rfl)
theorem dX8_add_35 : decode cX8_add 35 = .ok (.iload 4, 2) := dk_21 4 (dk_at dksX8_add_1 12 rfl rfl)
theorem dX8_add_37 : decode cX8_add 37 = .ok (.putfield 17, 3) := dk_181 0 17 (dk_at dksX8_add_1 14 rfl rfl)
theorem dX8_add_40 : decode cX8_add 40 = .ok (.goto 38, 3) := dk_167 0 38 (dk_at dksX8_add_1 17 rfl rfl)
theorem dX8_add_43 : decode cX8_add 43 = .ok (.aload_n 1, 1) := dk_43 (dk_at dksX8_add_1 20 rfl rfl)
theorem dX8_add_44 : decode cX8_add 44 = .ok (.aload_n 2, 1) := dk_44 (dk_at dksX8_add_1 21 rfl rfl)
theorem dX8_add_45 : decode cX8_add 45 = .ok (.invokestatic 27, 3) := dk_184 0 27 (dk_at dksX8_add_2 0 rfl rfl)
theorem dX8_add_48 : decode cX8_add 48 = .ok (.ifCond .lt 18, 3) := dk_155 0 18 (dk_at dksX8_add_2 3 rfl rfl)
theorem dX8_add_51 : decode cX8_add 51 = .ok (.aload_n 0, 1) := dk_42 (dk_at dksX8_add_2 6 rfl rfl)
theorem dX8_add_52 : decode cX8_add 52 = .ok (.aload_n 1, 1) := dk_43 (dk_at dksX8_add_2 7 rfl rfl)
theorem dX8_add_53 : decode cX8_add 53 = .ok (.aload_n 2, 1) := dk_44 (dk_at dksX8_add_2 8 rfl rfl)
theorem dX8_add_54 : decode cX8_add 54 = .ok (.invokevirtual 38, 3) := dk_182 0 38 (dk_at dksX8_add_2 9 rfl rfl)
theorem dX8_add_57 : decode cX8_add 57 = .ok (.aload_n 0, 1) := dk_42 (dk_at dksX8_add_2 12 rfl rfl)
theorem dX8_add_58 : decode cX8_add 58 = .ok (.iload 4, 2) := dk_21 4 (dk_at dksX8_add_2 13 rfl rfl)
theorem dX8_add_60 : decode cX8_add 60 = .ok (.putfield 17, 3) := dk_181 0 17 (dk_at dksX8_add_2 15 rfl rfl)
theorem dX8_add_63 : decode cX8_add 63 = .ok (.goto 15, 3) := dk_167 0 15 (dk_at dksX8_add_2 18 rfl rfl)
theorem dX8_add_66 : decode cX8_add 66 = .ok (.aload_n 0, 1) := dk_42 (dk_at dksX8_add_2 21 rfl rfl)
theorem dX8_add_67 : decode cX8_add 67 = .ok (.aload_n 2, 1) := dk_44 (dk_at dksX8_add_2 22 rfl rfl)
theorem dX8_add_68 : decode cX8_add 68 = .ok (.aload_n 1, 1) := dk_43 (dk_at dksX8_add_2 23 rfl rfl)
theorem dX8_add_69 : decode cX8_add 69 = .ok (.invokevirtual 38, 3) := dk_182 0 38 (dk_at dksX8_add_3 0 rfl rfl)
theorem dX8_add_72 : decode cX8_add 72 = .ok (.aload_n 0, 1) := dk_42 (dk_at dksX8_add_3 3 rfl rfl)
theorem dX8_add_73 : decode cX8_add 73 = .ok (.iload 5, 2) := dk_21 5 (dk_at dksX8_add_3 4 rfl rfl)
theorem dX8_add_75 : decode cX8_add 75 = .ok (.putfield 17, 3) := dk_181 0 17 (dk_at dksX8_add_3 6 rfl rfl)
theorem dX8_add_78 : decode cX8_add 78 = .ok (.aload_n 0, 1) := dk_42 (dk_at dksX8_add_3 9 rfl rfl)
theorem dX8_add_79 : decode cX8_add 79 = .ok (.invokevirtual 31, 3) := dk_182 0 31 (dk_at dksX8_add_3 10 rfl rfl)
theorem dX8_add_82 : decode cX8_add 82 = .ok (.return_, 1) := dk_177 (dk_at dksX8_add_3 13 rfl rfl)
abbrev cX8_addSizes : ByteArray := prog_2_method_12_code
def yX8_addSizes : MethodName := ⟨RX8, "addSizes", "(LLibraryDesk$Big;LLibraryDesk$Big;)V"⟩
def dkwX8_addSizes_6 : List UInt8 := [4, 96, 181, 0, 13, 177]
abbrev dktX8_addSizes_6 : List UInt8 := dkwX8_addSizes_6 ++ []
def dkwX8_addSizes_5 : List UInt8 := [22, 4, 9, 148, 153, 0, 25, 42, 180, 0, 9, 42, 180, 0, 13, 22, 4, 136, 79, 42, 89, 180, 0, 13]
abbrev dktX8_addSizes_5 : List UInt8 := dkwX8_addSizes_5 ++ dktX8_addSizes_6
def dkwX8_addSizes_4 : List UInt8 := [21, 6, 22, 4, 136, 79, 22, 4, 16, 32, 125, 55, 4, 132, 6, 1, 167, 255, 174, 42, 29, 181, 0, 13]
abbrev dktX8_addSizes_4 : List UInt8 := dkwX8_addSizes_4 ++ dktX8_addSizes_5
def dkwX8_addSizes_3 : List UInt8 := [44, 180, 0, 9, 21, 6, 46, 133, 20, 0, 21, 127, 167, 0, 4, 9, 97, 97, 55, 4, 42, 180, 0, 9]
abbrev dktX8_addSizes_3 : List UInt8 := dkwX8_addSizes_3 ++ dktX8_addSizes_4
def dkwX8_addSizes_2 : List UInt8 := [180, 0, 9, 21, 6, 46, 133, 20, 0, 21, 127, 167, 0, 4, 9, 21, 6, 44, 180, 0, 13, 162, 0, 18]
abbrev dktX8_addSizes_2 : List UInt8 := dkwX8_addSizes_2 ++ dktX8_addSizes_3
def dkwX8_addSizes_1 : List UInt8 := [55, 4, 3, 54, 6, 21, 6, 29, 162, 0, 82, 22, 4, 21, 6, 43, 180, 0, 13, 162, 0, 18, 43]
abbrev dktX8_addSizes_1 : List UInt8 := dkwX8_addSizes_1 ++ dktX8_addSizes_2
def dkwX8_addSizes_0 : List UInt8 := [43, 180, 0, 13, 44, 180, 0, 13, 164, 0, 10, 43, 180, 0, 13, 167, 0, 7, 44, 180, 0, 13, 62, 9]
abbrev dktX8_addSizes_0 : List UInt8 := dkwX8_addSizes_0 ++ dktX8_addSizes_1
theorem dksX8_addSizes_0 : cX8_addSizes.data.toList.drop 0 = dktX8_addSizes_0 := by decide +kernel
theorem dksX8_addSizes_1 : cX8_addSizes.data.toList.drop 24 = dktX8_addSizes_1 := dk_seg dksX8_addSizes_0 24 rfl rfl
theorem dksX8_addSizes_2 : cX8_addSizes.data.toList.drop 47 = dktX8_addSizes_2 := dk_seg dksX8_addSizes_1 23 rfl rfl
theorem dksX8_addSizes_3 : cX8_addSizes.data.toList.drop 71 = dktX8_addSizes_3 := dk_seg dksX8_addSizes_2 24 rfl rfl
theorem dksX8_addSizes_4 : cX8_addSizes.data.toList.drop 95 = dktX8_addSizes_4 := dk_seg dksX8_addSizes_3 24 rfl rfl
theorem dksX8_addSizes_5 : cX8_addSizes.data.toList.drop 119 = dktX8_addSizes_5 := dk_seg dksX8_addSizes_4 24 rfl rfl
theorem dksX8_addSizes_6 : cX8_addSizes.data.toList.drop 143 = dktX8_addSizes_6 := dk_seg dksX8_addSizes_5 24 rfl rfl
theorem dX8_addSizes_0 : decode cX8_addSizes 0 = .ok (.aload_n 1, 1) := dk_43 (dk_at dksX8_addSizes_0 0 rfl rfl)
theorem dX8_addSizes_1 : decode cX8_addSizes 1 = .ok (.getfield 13, 3) := dk_180 0 13 (dk_at dksX8_addSizes_0 1 rfl rfl)
theorem dX8_addSizes_4 : decode cX8_addSizes 4 = .ok (.aload_n 2, 1) := dk_44 (dk_at dksX8_addSizes_0 4 rfl rfl)
theorem dX8_addSizes_5 : decode cX8_addSizes 5 = .ok (.getfield 13, 3) := dk_180 0 13 (dk_at dksX8_addSizes_0 5 rfl rfl)
theorem dX8_addSizes_8 : decode cX8_addSizes 8 = .ok (.if_icmp .le 10, 3) := dk_164 0 10 (dk_at dksX8_addSizes_0 8 rfl rfl)
theorem dX8_addSizes_11 : decode cX8_addSizes 11 = .ok (.aload_n 1, 1) := dk_43 (dk_at dksX8_addSizes_0 11 rfl rfl)
theorem dX8_addSizes_12 : decode cX8_addSizes 12 = .ok (.getfield 13, 3) := dk_180 0 13 (dk_at dksX8_addSizes_0 12 rfl rfl)
theorem dX8_addSizes_15 : decode cX8_addSizes 15 = .ok (.goto 7, 3) := dk_167 0 7 (dk_at dksX8_addSizes_0 15 rfl rfl)
theorem dX8_addSizes_18 : decode cX8_addSizes 18 = .ok (.aload_n 2, 1) := dk_44 (dk_at dksX8_addSizes_0 18 rfl rfl)
theorem dX8_addSizes_19 : decode cX8_addSizes 19 = .ok (.getfield 13, 3) := dk_180 0 13 (dk_at dksX8_addSizes_0 19 rfl rfl)
theorem dX8_addSizes_22 : decode cX8_addSizes 22 = .ok (.istore_n 3, 1) := dk_62 (dk_at dksX8_addSizes_0 22 rfl rfl)
theorem dX8_addSizes_23 : decode cX8_addSizes 23 = .ok (.lconst 0, 1) := dk_9 (dk_at dksX8_addSizes_0 23 rfl rfl)
theorem dX8_addSizes_24 : decode cX8_addSizes 24 = .ok (.lstore 4, 2) := dk_55 4 (dk_at dksX8_addSizes_1 0 rfl rfl)
theorem dX8_addSizes_26 : decode cX8_addSizes 26 = .ok (.iconst 0, 1) := dk_3 (dk_at dksX8_addSizes_1 2 rfl rfl)
theorem dX8_addSizes_27 : decode cX8_addSizes 27 = .ok (.istore 6, 2) := dk_54 6 (dk_at dksX8_addSizes_1 3 rfl rfl)
theorem dX8_addSizes_29 : decode cX8_addSizes 29 = .ok (.iload 6, 2) := dk_21 6 (dk_at dksX8_addSizes_1 5 rfl rfl)
theorem dX8_addSizes_31 : decode cX8_addSizes 31 = .ok (.iload_n 3, 1) := dk_29 (dk_at dksX8_addSizes_1 7 rfl rfl)
theorem dX8_addSizes_32 : decode cX8_addSizes 32 = .ok (.if_icmp .ge 82, 3) := dk_162 0 82 (dk_at dksX8_addSizes_1 8 rfl rfl)
theorem dX8_addSizes_35 : decode cX8_addSizes 35 = .ok (.lload 4, 2) := dk_22 4 (dk_at dksX8_addSizes_1 11 rfl rfl)
theorem dX8_addSizes_37 : decode cX8_addSizes 37 = .ok (.iload 6, 2) := dk_21 6 (dk_at dksX8_addSizes_1 13 rfl rfl)
theorem dX8_addSizes_39 : decode cX8_addSizes 39 = .ok (.aload_n 1, 1) := dk_43 (dk_at dksX8_addSizes_1 15 rfl rfl)
theorem dX8_addSizes_40 : decode cX8_addSizes 40 = .ok (.getfield 13, 3) := dk_180 0 13 (dk_at dksX8_addSizes_1 16 rfl rfl)
theorem dX8_addSizes_43 : decode cX8_addSizes 43 = .ok (.if_icmp .ge 18, 3) := dk_162 0 18 (dk_at dksX8_addSizes_1 19 rfl rfl)
theorem dX8_addSizes_46 : decode cX8_addSizes 46 = .ok (.aload_n 1, 1) := dk_43 (dk_at dksX8_addSizes_1 22 rfl rfl)
theorem dX8_addSizes_47 : decode cX8_addSizes 47 = .ok (.getfield 9, 3) := dk_180 0 9 (dk_at dksX8_addSizes_2 0 rfl rfl)
theorem dX8_addSizes_50 : decode cX8_addSizes 50 = .ok (.iload 6, 2) := dk_21 6 (dk_at dksX8_addSizes_2 3 rfl rfl)
theorem dX8_addSizes_52 : decode cX8_addSizes 52 = .ok (.iaload, 1) := dk_46 (dk_at dksX8_addSizes_2 5 rfl rfl)
theorem dX8_addSizes_53 : decode cX8_addSizes 53 = .ok (.i2l, 1) := dk_133 (dk_at dksX8_addSizes_2 6 rfl rfl)
theorem dX8_addSizes_54 : decode cX8_addSizes 54 = .ok (.ldc2_w 21, 3) := dk_20 0 21 (dk_at dksX8_addSizes_2 7 rfl rfl)
theorem dX8_addSizes_57 : decode cX8_addSizes 57 = .ok (.land, 1) := dk_127 (dk_at dksX8_addSizes_2 10 rfl rfl)
theorem dX8_addSizes_58 : decode cX8_addSizes 58 = .ok (.goto 4, 3) := dk_167 0 4 (dk_at dksX8_addSizes_2 11 rfl rfl)
theorem dX8_addSizes_61 : decode cX8_addSizes 61 = .ok (.lconst 0, 1) := dk_9 (dk_at dksX8_addSizes_2 14 rfl rfl)
theorem dX8_addSizes_62 : decode cX8_addSizes 62 = .ok (.iload 6, 2) := dk_21 6 (dk_at dksX8_addSizes_2 15 rfl rfl)
theorem dX8_addSizes_64 : decode cX8_addSizes 64 = .ok (.aload_n 2, 1) := dk_44 (dk_at dksX8_addSizes_2 17 rfl rfl)
theorem dX8_addSizes_65 : decode cX8_addSizes 65 = .ok (.getfield 13, 3) := dk_180 0 13 (dk_at dksX8_addSizes_2 18 rfl rfl)
theorem dX8_addSizes_68 : decode cX8_addSizes 68 = .ok (.if_icmp .ge 18, 3) := dk_162 0 18 (dk_at dksX8_addSizes_2 21 rfl rfl)
theorem dX8_addSizes_71 : decode cX8_addSizes 71 = .ok (.aload_n 2, 1) := dk_44 (dk_at dksX8_addSizes_3 0 rfl rfl)
theorem dX8_addSizes_72 : decode cX8_addSizes 72 = .ok (.getfield 9, 3) := dk_180 0 9 (dk_at dksX8_addSizes_3 1 rfl rfl)
theorem dX8_addSizes_75 : decode cX8_addSizes 75 = .ok (.iload 6, 2) := dk_21 6 (dk_at dksX8_addSizes_3 4 rfl rfl)
theorem dX8_addSizes_77 : decode cX8_addSizes 77 = .ok (.iaload, 1) := dk_46 (dk_at dksX8_addSizes_3 6 rfl rfl)
theorem dX8_addSizes_78 : decode cX8_addSizes 78 = .ok (.i2l, 1) := dk_133 (dk_at dksX8_addSizes_3 7 rfl rfl)
theorem dX8_addSizes_79 : decode cX8_addSizes 79 = .ok (.ldc2_w 21, 3) := dk_20 0 21 (dk_at dksX8_addSizes_3 8 rfl rfl)
theorem dX8_addSizes_82 : decode cX8_addSizes 82 = .ok (.land, 1) := dk_127 (dk_at dksX8_addSizes_3 11 rfl rfl)
theorem dX8_addSizes_83 : decode cX8_addSizes 83 = .ok (.goto 4, 3) := dk_167 0 4 (dk_at dksX8_addSizes_3 12 rfl rfl)
theorem dX8_addSizes_86 : decode cX8_addSizes 86 = .ok (.lconst 0, 1) := dk_9 (dk_at dksX8_addSizes_3 15 rfl rfl)
theorem dX8_addSizes_87 : decode cX8_addSizes 87 = .ok (.ladd, 1) := dk_97 (dk_at dksX8_addSizes_3 16 rfl rfl)
theorem dX8_addSizes_88 : decode cX8_addSizes 88 = .ok (.ladd, 1) := dk_97 (dk_at dksX8_addSizes_3 17 rfl rfl)
theorem dX8_addSizes_89 : decode cX8_addSizes 89 = .ok (.lstore 4, 2) := dk_55 4 (dk_at dksX8_addSizes_3 18 rfl rfl)
theorem dX8_addSizes_91 : decode cX8_addSizes 91 = .ok (.aload_n 0, 1) := dk_42 (dk_at dksX8_addSizes_3 20 rfl rfl)
theorem dX8_addSizes_92 : decode cX8_addSizes 92 = .ok (.getfield 9, 3) := dk_180 0 9 (dk_at dksX8_addSizes_3 21 rfl rfl)
theorem dX8_addSizes_95 : decode cX8_addSizes 95 = .ok (.iload 6, 2) := dk_21 6 (dk_at dksX8_addSizes_4 0 rfl rfl)
theorem dX8_addSizes_97 : decode cX8_addSizes 97 = .ok (.lload 4, 2) := dk_22 4 (dk_at dksX8_addSizes_4 2 rfl rfl)
theorem dX8_addSizes_99 : decode cX8_addSizes 99 = .ok (.l2i, 1) := dk_136 (dk_at dksX8_addSizes_4 4 rfl rfl)
theorem dX8_addSizes_100 : decode cX8_addSizes 100 = .ok (.iastore, 1) := dk_79 (dk_at dksX8_addSizes_4 5 rfl rfl)
theorem dX8_addSizes_101 : decode cX8_addSizes 101 = .ok (.lload 4, 2) := dk_22 4 (dk_at dksX8_addSizes_4 6 rfl rfl)
theorem dX8_addSizes_103 : decode cX8_addSizes 103 = .ok (.bipush 32, 2) := dk_16 32 (dk_at dksX8_addSizes_4 8 rfl rfl)
theorem dX8_addSizes_105 : decode cX8_addSizes 105 = .ok (.lushr, 1) := dk_125 (dk_at dksX8_addSizes_4 10 rfl rfl)
theorem dX8_addSizes_106 : decode cX8_addSizes 106 = .ok (.lstore 4, 2) := dk_55 4 (dk_at dksX8_addSizes_4 11 rfl rfl)
theorem dX8_addSizes_108 : decode cX8_addSizes 108 = .ok (.iinc 6 1, 3) := dk_132 6 1 (dk_at dksX8_addSizes_4 13 rfl rfl)
theorem dX8_addSizes_111 : decode cX8_addSizes 111 = .ok (.goto (-82), 3) := dk_167 255 174 (dk_at dksX8_addSizes_4 16 rfl rfl)
theorem dX8_addSizes_114 : decode cX8_addSizes 114 = .ok (.aload_n 0, 1) := dk_42 (dk_at dksX8_addSizes_4 19 rfl rfl)
theorem dX8_addSizes_115 : decode cX8_addSizes 115 = .ok (.iload_n 3, 1) := dk_29 (dk_at dksX8_addSizes_4 20 rfl rfl)
theorem dX8_addSizes_116 : decode cX8_addSizes 116 = .ok (.putfield 13, 3) := dk_181 0 13 (dk_at dksX8_addSizes_4 21 rfl rfl)
theorem dX8_addSizes_119 : decode cX8_addSizes 119 = .ok (.lload 4, 2) := dk_22 4 (dk_at dksX8_addSizes_5 0 rfl rfl)
theorem dX8_addSizes_121 : decode cX8_addSizes 121 = .ok (.lconst 0, 1) := dk_9 (dk_at dksX8_addSizes_5 2 rfl rfl)
theorem dX8_addSizes_122 : decode cX8_addSizes 122 = .ok (.lcmp, 1) := dk_148 (dk_at dksX8_addSizes_5 3 rfl rfl)
theorem dX8_addSizes_123 : decode cX8_addSizes 123 = .ok (.ifCond .eq 25, 3) := dk_153 0 25 (dk_at dksX8_addSizes_5 4 rfl rfl)
theorem dX8_addSizes_126 : decode cX8_addSizes 126 = .ok (.aload_n 0, 1) := dk_42 (dk_at dksX8_addSizes_5 7 rfl rfl)
theorem dX8_addSizes_127 : decode cX8_addSizes 127 = .ok (.getfield 9, 3) := dk_180 0 9 (dk_at dksX8_addSizes_5 8 rfl rfl)
theorem dX8_addSizes_130 : decode cX8_addSizes 130 = .ok (.aload_n 0, 1) := dk_42 (dk_at dksX8_addSizes_5 11 rfl rfl)
theorem dX8_addSizes_131 : decode cX8_addSizes 131 = .ok (.getfield 13, 3) := dk_180 0 13 (dk_at dksX8_addSizes_5 12 rfl rfl)
theorem dX8_addSizes_134 : decode cX8_addSizes 134 = .ok (.lload 4, 2) := dk_22 4 (dk_at dksX8_addSizes_5 15 rfl rfl)
theorem dX8_addSizes_136 : decode cX8_addSizes 136 = .ok (.l2i, 1) := dk_136 (dk_at dksX8_addSizes_5 17 rfl rfl)
theorem dX8_addSizes_137 : decode cX8_addSizes 137 = .ok (.iastore, 1) := dk_79 (dk_at dksX8_addSizes_5 18 rfl rfl)
theorem dX8_addSizes_138 : decode cX8_addSizes 138 = .ok (.aload_n 0, 1) := dk_42 (dk_at dksX8_addSizes_5 19 rfl rfl)
theorem dX8_addSizes_139 : decode cX8_addSizes 139 = .ok (.dup, 1) := dk_89 (dk_at dksX8_addSizes_5 20 rfl rfl)
theorem dX8_addSizes_140 : decode cX8_addSizes 140 = .ok (.getfield 13, 3) := dk_180 0 13 (dk_at dksX8_addSizes_5 21 rfl rfl)
theorem dX8_addSizes_143 : decode cX8_addSizes 143 = .ok (.iconst 1, 1) := dk_4 (dk_at dksX8_addSizes_6 0 rfl rfl)
theorem dX8_addSizes_144 : decode cX8_addSizes 144 = .ok (.iadd, 1) := dk_96 (dk_at dksX8_addSizes_6 1 rfl rfl)
theorem dX8_addSizes_145 : decode cX8_addSizes 145 = .ok (.putfield 13, 3) := dk_181 0 13 (dk_at dksX8_addSizes_6 2 rfl rfl)
theorem dX8_addSizes_148 : decode cX8_addSizes 148 = .ok (.return_, 1) := dk_177 (dk_at dksX8_addSizes_6 5 rfl rfl)
abbrev cX8_compareSizes : ByteArray := prog_2_method_10_code
def yX8_compareSizes : MethodName := ⟨RX8, "compareSizes", "(LLibraryDesk$Big;LLibraryDesk$Big;)I"⟩
def dkwX8_compareSizes_3 : List UInt8 := [153, 0, 16, 33, 22, 5, 148, 156, 0, 7, 2, 167, 0, 4, 4, 172, 132, 2, 255, 167, 255, 204, 3, 172]
abbrev dktX8_compareSizes_3 : List UInt8 := dkwX8_compareSizes_3 ++ []
def dkwX8_compareSizes_2 : List UInt8 := [20, 0, 21, 127, 66, 43, 180, 0, 9, 28, 46, 133, 20, 0, 21, 127, 55, 5, 33, 22, 5, 148]
abbrev dktX8_compareSizes_2 : List UInt8 := dkwX8_compareSizes_2 ++ dktX8_compareSizes_3
def dkwX8_compareSizes_1 : List UInt8 := [167, 0, 4, 4, 172, 42, 180, 0, 13, 4, 100, 61, 28, 155, 0, 54, 42, 180, 0, 9, 28, 46, 133]
abbrev dktX8_compareSizes_1 : List UInt8 := dkwX8_compareSizes_1 ++ dktX8_compareSizes_2
def dkwX8_compareSizes_0 : List UInt8 := [42, 180, 0, 13, 43, 180, 0, 13, 159, 0, 20, 42, 180, 0, 13, 43, 180, 0, 13, 162, 0, 7, 2]
abbrev dktX8_compareSizes_0 : List UInt8 := dkwX8_compareSizes_0 ++ dktX8_compareSizes_1
theorem dksX8_compareSizes_0 : cX8_compareSizes.data.toList.drop 0 = dktX8_compareSizes_0 := by decide +kernel
theorem dksX8_compareSizes_1 : cX8_compareSizes.data.toList.drop 23 = dktX8_compareSizes_1 := dk_seg dksX8_compareSizes_0 23 rfl rfl
theorem dksX8_compareSizes_2 : cX8_compareSizes.data.toList.drop 46 = dktX8_compareSizes_2 := dk_seg dksX8_compareSizes_1 23 rfl rfl
theorem dksX8_compareSizes_3 : cX8_compareSizes.data.toList.drop 68 = dktX8_compareSizes_3 := dk_seg dksX8_compareSizes_2 22 rfl rfl
theorem dX8_compareSizes_0 : decode cX8_compareSizes 0 = .ok (.aload_n 0, 1) := dk_42 (dk_at dksX8_compareSizes_0 0 rfl rfl)
theorem dX8_compareSizes_1 : decode cX8_compareSizes 1 = .ok (.getfield 13, 3) := dk_180 0 13 (dk_at dksX8_compareSizes_0 1 rfl rfl)
theorem dX8_compareSizes_4 : decode cX8_compareSizes 4 = .ok (.aload_n 1, 1) := dk_43 (dk_at dksX8_compareSizes_0 4 rfl rfl)
theorem dX8_compareSizes_5 : decode cX8_compareSizes 5 = .ok (.getfield 13, 3) := dk_180 0 13 (dk_at dksX8_compareSizes_0 5 rfl rfl)
theorem dX8_compareSizes_8 : decode cX8_compareSizes 8 = .ok (.if_icmp .eq 20, 3) := dk_159 0 20 (dk_at dksX8_compareSizes_0 8 rfl rfl)
theorem dX8_compareSizes_11 : decode cX8_compareSizes 11 = .ok (.aload_n 0, 1) := dk_42 (dk_at dksX8_compareSizes_0 11 rfl rfl)
theorem dX8_compareSizes_12 : decode cX8_compareSizes 12 = .ok (.getfield 13, 3) := dk_180 0 13 (dk_at dksX8_compareSizes_0 12 rfl rfl)
theorem dX8_compareSizes_15 : decode cX8_compareSizes 15 = .ok (.aload_n 1, 1) := dk_43 (dk_at dksX8_compareSizes_0 15 rfl rfl)
theorem dX8_compareSizes_16 : decode cX8_compareSizes 16 = .ok (.getfield 13, 3) := dk_180 0 13 (dk_at dksX8_compareSizes_0 16 rfl rfl)
theorem dX8_compareSizes_19 : decode cX8_compareSizes 19 = .ok (.if_icmp .ge 7, 3) := dk_162 0 7 (dk_at dksX8_compareSizes_0 19 rfl rfl)
theorem dX8_compareSizes_22 : decode cX8_compareSizes 22 = .ok (.iconst (-1), 1) := dk_2 (dk_at dksX8_compareSizes_0 22 rfl rfl)
theorem dX8_compareSizes_23 : decode cX8_compareSizes 23 = .ok (.goto 4, 3) := dk_167 0 4 (dk_at dksX8_compareSizes_1 0 rfl rfl)
theorem dX8_compareSizes_26 : decode cX8_compareSizes 26 = .ok (.iconst 1, 1) := dk_4 (dk_at dksX8_compareSizes_1 3 rfl rfl)
theorem dX8_compareSizes_27 : decode cX8_compareSizes 27 = .ok (.ireturn, 1) := dk_172 (dk_at dksX8_compareSizes_1 4 rfl rfl)
theorem dX8_compareSizes_28 : decode cX8_compareSizes 28 = .ok (.aload_n 0, 1) := dk_42 (dk_at dksX8_compareSizes_1 5 rfl rfl)
theorem dX8_compareSizes_29 : decode cX8_compareSizes 29 = .ok (.getfield 13, 3) := dk_180 0 13 (dk_at dksX8_compareSizes_1 6 rfl rfl)
theorem dX8_compareSizes_32 : decode cX8_compareSizes 32 = .ok (.iconst 1, 1) := dk_4 (dk_at dksX8_compareSizes_1 9 rfl rfl)
theorem dX8_compareSizes_33 : decode cX8_compareSizes 33 = .ok (.isub, 1) := dk_100 (dk_at dksX8_compareSizes_1 10 rfl rfl)
theorem dX8_compareSizes_34 : decode cX8_compareSizes 34 = .ok (.istore_n 2, 1) := dk_61 (dk_at dksX8_compareSizes_1 11 rfl rfl)
theorem dX8_compareSizes_35 : decode cX8_compareSizes 35 = .ok (.iload_n 2, 1) := dk_28 (dk_at dksX8_compareSizes_1 12 rfl rfl)
theorem dX8_compareSizes_36 : decode cX8_compareSizes 36 = .ok (.ifCond .lt 54, 3) := dk_155 0 54 (dk_at dksX8_compareSizes_1 13 rfl rfl)
theorem dX8_compareSizes_39 : decode cX8_compareSizes 39 = .ok (.aload_n 0, 1) := dk_42 (dk_at dksX8_compareSizes_1 16 rfl rfl)
theorem dX8_compareSizes_40 : decode cX8_compareSizes 40 = .ok (.getfield 9, 3) := dk_180 0 9 (dk_at dksX8_compareSizes_1 17 rfl rfl)
theorem dX8_compareSizes_43 : decode cX8_compareSizes 43 = .ok (.iload_n 2, 1) := dk_28 (dk_at dksX8_compareSizes_1 20 rfl rfl)
theorem dX8_compareSizes_44 : decode cX8_compareSizes 44 = .ok (.iaload, 1) := dk_46 (dk_at dksX8_compareSizes_1 21 rfl rfl)
theorem dX8_compareSizes_45 : decode cX8_compareSizes 45 = .ok (.i2l, 1) := dk_133 (dk_at dksX8_compareSizes_1 22 rfl rfl)
theorem dX8_compareSizes_46 : decode cX8_compareSizes 46 = .ok (.ldc2_w 21, 3) := dk_20 0 21 (dk_at dksX8_compareSizes_2 0 rfl rfl)
theorem dX8_compareSizes_49 : decode cX8_compareSizes 49 = .ok (.land, 1) := dk_127 (dk_at dksX8_compareSizes_2 3 rfl rfl)
theorem dX8_compareSizes_50 : decode cX8_compareSizes 50 = .ok (.lstore_n 3, 1) := dk_66 (dk_at dksX8_compareSizes_2 4 rfl rfl)
theorem dX8_compareSizes_51 : decode cX8_compareSizes 51 = .ok (.aload_n 1, 1) := dk_43 (dk_at dksX8_compareSizes_2 5 rfl rfl)
theorem dX8_compareSizes_52 : decode cX8_compareSizes 52 = .ok (.getfield 9, 3) := dk_180 0 9 (dk_at dksX8_compareSizes_2 6 rfl rfl)
theorem dX8_compareSizes_55 : decode cX8_compareSizes 55 = .ok (.iload_n 2, 1) := dk_28 (dk_at dksX8_compareSizes_2 9 rfl rfl)
theorem dX8_compareSizes_56 : decode cX8_compareSizes 56 = .ok (.iaload, 1) := dk_46 (dk_at dksX8_compareSizes_2 10 rfl rfl)
theorem dX8_compareSizes_57 : decode cX8_compareSizes 57 = .ok (.i2l, 1) := dk_133 (dk_at dksX8_compareSizes_2 11 rfl rfl)
theorem dX8_compareSizes_58 : decode cX8_compareSizes 58 = .ok (.ldc2_w 21, 3) := dk_20 0 21 (dk_at dksX8_compareSizes_2 12 rfl rfl)
theorem dX8_compareSizes_61 : decode cX8_compareSizes 61 = .ok (.land, 1) := dk_127 (dk_at dksX8_compareSizes_2 15 rfl rfl)
theorem dX8_compareSizes_62 : decode cX8_compareSizes 62 = .ok (.lstore 5, 2) := dk_55 5 (dk_at dksX8_compareSizes_2 16 rfl rfl)
theorem dX8_compareSizes_64 : decode cX8_compareSizes 64 = .ok (.lload_n 3, 1) := dk_33 (dk_at dksX8_compareSizes_2 18 rfl rfl)
theorem dX8_compareSizes_65 : decode cX8_compareSizes 65 = .ok (.lload 5, 2) := dk_22 5 (dk_at dksX8_compareSizes_2 19 rfl rfl)
theorem dX8_compareSizes_67 : decode cX8_compareSizes 67 = .ok (.lcmp, 1) := dk_148 (dk_at dksX8_compareSizes_2 21 rfl rfl)
theorem dX8_compareSizes_68 : decode cX8_compareSizes 68 = .ok (.ifCond .eq 16, 3) := dk_153 0 16 (dk_at dksX8_compareSizes_3 0 rfl rfl)
theorem dX8_compareSizes_71 : decode cX8_compareSizes 71 = .ok (.lload_n 3, 1) := dk_33 (dk_at dksX8_compareSizes_3 3 rfl rfl)
theorem dX8_compareSizes_72 : decode cX8_compareSizes 72 = .ok (.lload 5, 2) := dk_22 5 (dk_at dksX8_compareSizes_3 4 rfl rfl)
theorem dX8_compareSizes_74 : decode cX8_compareSizes 74 = .ok (.lcmp, 1) := dk_148 (dk_at dksX8_compareSizes_3 6 rfl rfl)
theorem dX8_compareSizes_75 : decode cX8_compareSizes 75 = .ok (.ifCond .ge 7, 3) := dk_156 0 7 (dk_at dksX8_compareSizes_3 7 rfl rfl)
theorem dX8_compareSizes_78 : decode cX8_compareSizes 78 = .ok (.iconst (-1), 1) := dk_2 (dk_at dksX8_compareSizes_3 10 rfl rfl)
theorem dX8_compareSizes_79 : decode cX8_compareSizes 79 = .ok (.goto 4, 3) := dk_167 0 4 (dk_at dksX8_compareSizes_3 11 rfl rfl)
theorem dX8_compareSizes_82 : decode cX8_compareSizes 82 = .ok (.iconst 1, 1) := dk_4 (dk_at dksX8_compareSizes_3 14 rfl rfl)
theorem dX8_compareSizes_83 : decode cX8_compareSizes 83 = .ok (.ireturn, 1) := dk_172 (dk_at dksX8_compareSizes_3 15 rfl rfl)
theorem dX8_compareSizes_84 : decode cX8_compareSizes 84 = .ok (.iinc 2 (-1), 3) := dk_132 2 255 (dk_at dksX8_compareSizes_3 16 rfl rfl)
theorem dX8_compareSizes_87 : decode cX8_compareSizes 87 = .ok (.goto (-52), 3) := dk_167 255 204 (dk_at dksX8_compareSizes_3 19 rfl rfl)
theorem dX8_compareSizes_90 : decode cX8_compareSizes 90 = .ok (.iconst 0, 1) := dk_3 (dk_at dksX8_compareSizes_3 22 rfl rfl)
theorem dX8_compareSizes_91 : decode cX8_compareSizes 91 = .ok (.ireturn, 1) := dk_172 (dk_at dksX8_compareSizes_3 23 rfl rfl)
abbrev cX8_takeSizes : ByteArray := prog_2_method_13_code
def yX8_takeSizes : MethodName := ⟨RX8, "takeSizes", "(LLibraryDesk$Big;LLibraryDesk$Big;)V"⟩
def dkwX8_takeSizes_3 : List UInt8 := [123, 66, 132, 6, 1, 167, 255, 191, 42, 21, 5, 181, 0, 13, 42, 182, 0, 31, 177]
abbrev dktX8_takeSizes_3 : List UInt8 := dkwX8_takeSizes_3 ++ []
def dkwX8_takeSizes_2 : List UInt8 := [133, 20, 0, 21, 127, 167, 0, 4, 9, 101, 97, 66, 42, 180, 0, 9, 21, 6, 33, 136, 79, 33, 16, 32]
abbrev dktX8_takeSizes_2 : List UInt8 := dkwX8_takeSizes_2 ++ dktX8_takeSizes_3
def dkwX8_takeSizes_1 : List UInt8 := [21, 6, 46, 133, 20, 0, 21, 127, 21, 6, 44, 180, 0, 13, 162, 0, 18, 44, 180, 0, 9, 21, 6, 46]
abbrev dktX8_takeSizes_1 : List UInt8 := dkwX8_takeSizes_1 ++ dktX8_takeSizes_2
def dkwX8_takeSizes_0 : List UInt8 := [9, 66, 43, 180, 0, 13, 54, 5, 3, 54, 6, 21, 6, 21, 5, 162, 0, 64, 33, 43, 180, 0, 9]
abbrev dktX8_takeSizes_0 : List UInt8 := dkwX8_takeSizes_0 ++ dktX8_takeSizes_1
theorem dksX8_takeSizes_0 : cX8_takeSizes.data.toList.drop 0 = dktX8_takeSizes_0 := by decide +kernel
theorem dksX8_takeSizes_1 : cX8_takeSizes.data.toList.drop 23 = dktX8_takeSizes_1 := dk_seg dksX8_takeSizes_0 23 rfl rfl
theorem dksX8_takeSizes_2 : cX8_takeSizes.data.toList.drop 47 = dktX8_takeSizes_2 := dk_seg dksX8_takeSizes_1 24 rfl rfl
theorem dksX8_takeSizes_3 : cX8_takeSizes.data.toList.drop 71 = dktX8_takeSizes_3 := dk_seg dksX8_takeSizes_2 24 rfl rfl
theorem dX8_takeSizes_0 : decode cX8_takeSizes 0 = .ok (.lconst 0, 1) := dk_9 (dk_at dksX8_takeSizes_0 0 rfl rfl)
theorem dX8_takeSizes_1 : decode cX8_takeSizes 1 = .ok (.lstore_n 3, 1) := dk_66 (dk_at dksX8_takeSizes_0 1 rfl rfl)
theorem dX8_takeSizes_2 : decode cX8_takeSizes 2 = .ok (.aload_n 1, 1) := dk_43 (dk_at dksX8_takeSizes_0 2 rfl rfl)
theorem dX8_takeSizes_3 : decode cX8_takeSizes 3 = .ok (.getfield 13, 3) := dk_180 0 13 (dk_at dksX8_takeSizes_0 3 rfl rfl)
theorem dX8_takeSizes_6 : decode cX8_takeSizes 6 = .ok (.istore 5, 2) := dk_54 5 (dk_at dksX8_takeSizes_0 6 rfl rfl)
theorem dX8_takeSizes_8 : decode cX8_takeSizes 8 = .ok (.iconst 0, 1) := dk_3 (dk_at dksX8_takeSizes_0 8 rfl rfl)
theorem dX8_takeSizes_9 : decode cX8_takeSizes 9 = .ok (.istore 6, 2) := dk_54 6 (dk_at dksX8_takeSizes_0 9 rfl rfl)
theorem dX8_takeSizes_11 : decode cX8_takeSizes 11 = .ok (.iload 6, 2) := dk_21 6 (dk_at dksX8_takeSizes_0 11 rfl rfl)
theorem dX8_takeSizes_13 : decode cX8_takeSizes 13 = .ok (.iload 5, 2) := dk_21 5 (dk_at dksX8_takeSizes_0 13 rfl rfl)
theorem dX8_takeSizes_15 : decode cX8_takeSizes 15 = .ok (.if_icmp .ge 64, 3) := dk_162 0 64 (dk_at dksX8_takeSizes_0 15 rfl rfl)
theorem dX8_takeSizes_18 : decode cX8_takeSizes 18 = .ok (.lload_n 3, 1) := dk_33 (dk_at dksX8_takeSizes_0 18 rfl rfl)
theorem dX8_takeSizes_19 : decode cX8_takeSizes 19 = .ok (.aload_n 1, 1) := dk_43 (dk_at dksX8_takeSizes_0 19 rfl rfl)
theorem dX8_takeSizes_20 : decode cX8_takeSizes 20 = .ok (.getfield 9, 3) := dk_180 0 9 (dk_at dksX8_takeSizes_0 20 rfl rfl)
theorem dX8_takeSizes_23 : decode cX8_takeSizes 23 = .ok (.iload 6, 2) := dk_21 6 (dk_at dksX8_takeSizes_1 0 rfl rfl)
theorem dX8_takeSizes_25 : decode cX8_takeSizes 25 = .ok (.iaload, 1) := dk_46 (dk_at dksX8_takeSizes_1 2 rfl rfl)
theorem dX8_takeSizes_26 : decode cX8_takeSizes 26 = .ok (.i2l, 1) := dk_133 (dk_at dksX8_takeSizes_1 3 rfl rfl)
theorem dX8_takeSizes_27 : decode cX8_takeSizes 27 = .ok (.ldc2_w 21, 3) := dk_20 0 21 (dk_at dksX8_takeSizes_1 4 rfl rfl)
theorem dX8_takeSizes_30 : decode cX8_takeSizes 30 = .ok (.land, 1) := dk_127 (dk_at dksX8_takeSizes_1 7 rfl rfl)
theorem dX8_takeSizes_31 : decode cX8_takeSizes 31 = .ok (.iload 6, 2) := dk_21 6 (dk_at dksX8_takeSizes_1 8 rfl rfl)
theorem dX8_takeSizes_33 : decode cX8_takeSizes 33 = .ok (.aload_n 2, 1) := dk_44 (dk_at dksX8_takeSizes_1 10 rfl rfl)
theorem dX8_takeSizes_34 : decode cX8_takeSizes 34 = .ok (.getfield 13, 3) := dk_180 0 13 (dk_at dksX8_takeSizes_1 11 rfl rfl)
theorem dX8_takeSizes_37 : decode cX8_takeSizes 37 = .ok (.if_icmp .ge 18, 3) := dk_162 0 18 (dk_at dksX8_takeSizes_1 14 rfl rfl)
theorem dX8_takeSizes_40 : decode cX8_takeSizes 40 = .ok (.aload_n 2, 1) := dk_44 (dk_at dksX8_takeSizes_1 17 rfl rfl)
theorem dX8_takeSizes_41 : decode cX8_takeSizes 41 = .ok (.getfield 9, 3) := dk_180 0 9 (dk_at dksX8_takeSizes_1 18 rfl rfl)
theorem dX8_takeSizes_44 : decode cX8_takeSizes 44 = .ok (.iload 6, 2) := dk_21 6 (dk_at dksX8_takeSizes_1 21 rfl rfl)
theorem dX8_takeSizes_46 : decode cX8_takeSizes 46 = .ok (.iaload, 1) := dk_46 (dk_at dksX8_takeSizes_1 23 rfl rfl)
theorem dX8_takeSizes_47 : decode cX8_takeSizes 47 = .ok (.i2l, 1) := dk_133 (dk_at dksX8_takeSizes_2 0 rfl rfl)
theorem dX8_takeSizes_48 : decode cX8_takeSizes 48 = .ok (.ldc2_w 21, 3) := dk_20 0 21 (dk_at dksX8_takeSizes_2 1 rfl rfl)
theorem dX8_takeSizes_51 : decode cX8_takeSizes 51 = .ok (.land, 1) := dk_127 (dk_at dksX8_takeSizes_2 4 rfl rfl)
theorem dX8_takeSizes_52 : decode cX8_takeSizes 52 = .ok (.goto 4, 3) := dk_167 0 4 (dk_at dksX8_takeSizes_2 5 rfl rfl)
theorem dX8_takeSizes_55 : decode cX8_takeSizes 55 = .ok (.lconst 0, 1) := dk_9 (dk_at dksX8_takeSizes_2 8 rfl rfl)
theorem dX8_takeSizes_56 : decode cX8_takeSizes 56 = .ok (.lsub, 1) := dk_101 (dk_at dksX8_takeSizes_2 9 rfl rfl)
theorem dX8_takeSizes_57 : decode cX8_takeSizes 57 = .ok (.ladd, 1) := dk_97 (dk_at dksX8_takeSizes_2 10 rfl rfl)
theorem dX8_takeSizes_58 : decode cX8_takeSizes 58 = .ok (.lstore_n 3, 1) := dk_66 (dk_at dksX8_takeSizes_2 11 rfl rfl)
theorem dX8_takeSizes_59 : decode cX8_takeSizes 59 = .ok (.aload_n 0, 1) := dk_42 (dk_at dksX8_takeSizes_2 12 rfl rfl)
theorem dX8_takeSizes_60 : decode cX8_takeSizes 60 = .ok (.getfield 9, 3) := dk_180 0 9 (dk_at dksX8_takeSizes_2 13 rfl rfl)
theorem dX8_takeSizes_63 : decode cX8_takeSizes 63 = .ok (.iload 6, 2) := dk_21 6 (dk_at dksX8_takeSizes_2 16 rfl rfl)
theorem dX8_takeSizes_65 : decode cX8_takeSizes 65 = .ok (.lload_n 3, 1) := dk_33 (dk_at dksX8_takeSizes_2 18 rfl rfl)
theorem dX8_takeSizes_66 : decode cX8_takeSizes 66 = .ok (.l2i, 1) := dk_136 (dk_at dksX8_takeSizes_2 19 rfl rfl)
theorem dX8_takeSizes_67 : decode cX8_takeSizes 67 = .ok (.iastore, 1) := dk_79 (dk_at dksX8_takeSizes_2 20 rfl rfl)
theorem dX8_takeSizes_68 : decode cX8_takeSizes 68 = .ok (.lload_n 3, 1) := dk_33 (dk_at dksX8_takeSizes_2 21 rfl rfl)
theorem dX8_takeSizes_69 : decode cX8_takeSizes 69 = .ok (.bipush 32, 2) := dk_16 32 (dk_at dksX8_takeSizes_2 22 rfl rfl)
theorem dX8_takeSizes_71 : decode cX8_takeSizes 71 = .ok (.lshr, 1) := dk_123 (dk_at dksX8_takeSizes_3 0 rfl rfl)
theorem dX8_takeSizes_72 : decode cX8_takeSizes 72 = .ok (.lstore_n 3, 1) := dk_66 (dk_at dksX8_takeSizes_3 1 rfl rfl)
theorem dX8_takeSizes_73 : decode cX8_takeSizes 73 = .ok (.iinc 6 1, 3) := dk_132 6 1 (dk_at dksX8_takeSizes_3 2 rfl rfl)
theorem dX8_takeSizes_76 : decode cX8_takeSizes 76 = .ok (.goto (-65), 3) := dk_167 255 191 (dk_at dksX8_takeSizes_3 5 rfl rfl)
theorem dX8_takeSizes_79 : decode cX8_takeSizes 79 = .ok (.aload_n 0, 1) := dk_42 (dk_at dksX8_takeSizes_3 8 rfl rfl)
theorem dX8_takeSizes_80 : decode cX8_takeSizes 80 = .ok (.iload 5, 2) := dk_21 5 (dk_at dksX8_takeSizes_3 9 rfl rfl)
theorem dX8_takeSizes_82 : decode cX8_takeSizes 82 = .ok (.putfield 13, 3) := dk_181 0 13 (dk_at dksX8_takeSizes_3 11 rfl rfl)
theorem dX8_takeSizes_85 : decode cX8_takeSizes 85 = .ok (.aload_n 0, 1) := dk_42 (dk_at dksX8_takeSizes_3 14 rfl rfl)
theorem dX8_takeSizes_86 : decode cX8_takeSizes 86 = .ok (.invokevirtual 31, 3) := dk_182 0 31 (dk_at dksX8_takeSizes_3 15 rfl rfl)
theorem dX8_takeSizes_89 : decode cX8_takeSizes 89 = .ok (.return_, 1) := dk_177 (dk_at dksX8_takeSizes_3 18 rfl rfl)
abbrev cX8_trim : ByteArray := prog_2_method_7_code
def yX8_trim : MethodName := ⟨RX8, "trim", "()V"⟩
def dkwX8_trim_1 : List UInt8 := [180, 0, 13, 4, 100, 181, 0, 13, 167, 255, 225, 42, 180, 0, 13, 154, 0, 8, 42, 3, 181, 0, 17, 177]
abbrev dktX8_trim_1 : List UInt8 := dkwX8_trim_1 ++ []
def dkwX8_trim_0 : List UInt8 := [42, 180, 0, 13, 158, 0, 30, 42, 180, 0, 9, 42, 180, 0, 13, 4, 100, 46, 154, 0, 16, 42, 89]
abbrev dktX8_trim_0 : List UInt8 := dkwX8_trim_0 ++ dktX8_trim_1
theorem dksX8_trim_0 : cX8_trim.data.toList.drop 0 = dktX8_trim_0 := by decide +kernel
theorem dksX8_trim_1 : cX8_trim.data.toList.drop 23 = dktX8_trim_1 := dk_seg dksX8_trim_0 23 rfl rfl
theorem dX8_trim_0 : decode cX8_trim 0 = .ok (.aload_n 0, 1) := dk_42 (dk_at dksX8_trim_0 0 rfl rfl)
theorem dX8_trim_1 : decode cX8_trim 1 = .ok (.getfield 13, 3) := dk_180 0 13 (dk_at dksX8_trim_0 1 rfl rfl)
theorem dX8_trim_4 : decode cX8_trim 4 = .ok (.ifCond .le 30, 3) := dk_158 0 30 (dk_at dksX8_trim_0 4 rfl rfl)
theorem dX8_trim_7 : decode cX8_trim 7 = .ok (.aload_n 0, 1) := dk_42 (dk_at dksX8_trim_0 7 rfl rfl)
theorem dX8_trim_8 : decode cX8_trim 8 = .ok (.getfield 9, 3) := dk_180 0 9 (dk_at dksX8_trim_0 8 rfl rfl)
theorem dX8_trim_11 : decode cX8_trim 11 = .ok (.aload_n 0, 1) := dk_42 (dk_at dksX8_trim_0 11 rfl rfl)
theorem dX8_trim_12 : decode cX8_trim 12 = .ok (.getfield 13, 3) := dk_180 0 13 (dk_at dksX8_trim_0 12 rfl rfl)
theorem dX8_trim_15 : decode cX8_trim 15 = .ok (.iconst 1, 1) := dk_4 (dk_at dksX8_trim_0 15 rfl rfl)
theorem dX8_trim_16 : decode cX8_trim 16 = .ok (.isub, 1) := dk_100 (dk_at dksX8_trim_0 16 rfl rfl)
theorem dX8_trim_17 : decode cX8_trim 17 = .ok (.iaload, 1) := dk_46 (dk_at dksX8_trim_0 17 rfl rfl)
theorem dX8_trim_18 : decode cX8_trim 18 = .ok (.ifCond .ne 16, 3) := dk_154 0 16 (dk_at dksX8_trim_0 18 rfl rfl)
theorem dX8_trim_21 : decode cX8_trim 21 = .ok (.aload_n 0, 1) := dk_42 (dk_at dksX8_trim_0 21 rfl rfl)
theorem dX8_trim_22 : decode cX8_trim 22 = .ok (.dup, 1) := dk_89 (dk_at dksX8_trim_0 22 rfl rfl)
theorem dX8_trim_23 : decode cX8_trim 23 = .ok (.getfield 13, 3) := dk_180 0 13 (dk_at dksX8_trim_1 0 rfl rfl)
theorem dX8_trim_26 : decode cX8_trim 26 = .ok (.iconst 1, 1) := dk_4 (dk_at dksX8_trim_1 3 rfl rfl)
theorem dX8_trim_27 : decode cX8_trim 27 = .ok (.isub, 1) := dk_100 (dk_at dksX8_trim_1 4 rfl rfl)
theorem dX8_trim_28 : decode cX8_trim 28 = .ok (.putfield 13, 3) := dk_181 0 13 (dk_at dksX8_trim_1 5 rfl rfl)
theorem dX8_trim_31 : decode cX8_trim 31 = .ok (.goto (-31), 3) := dk_167 255 225 (dk_at dksX8_trim_1 8 rfl rfl)
theorem dX8_trim_34 : decode cX8_trim 34 = .ok (.aload_n 0, 1) := dk_42 (dk_at dksX8_trim_1 11 rfl rfl)
theorem dX8_trim_35 : decode cX8_trim 35 = .ok (.getfield 13, 3) := dk_180 0 13 (dk_at dksX8_trim_1 12 rfl rfl)
theorem dX8_trim_38 : decode cX8_trim 38 = .ok (.ifCond .ne 8, 3) := dk_154 0 8 (dk_at dksX8_trim_1 15 rfl rfl)
theorem dX8_trim_41 : decode cX8_trim 41 = .ok (.aload_n 0, 1) := dk_42 (dk_at dksX8_trim_1 18 rfl rfl)
theorem dX8_trim_42 : decode cX8_trim 42 = .ok (.iconst 0, 1) := dk_3 (dk_at dksX8_trim_1 19 rfl rfl)
theorem dX8_trim_43 : decode cX8_trim 43 = .ok (.putfield 17, 3) := dk_181 0 17 (dk_at dksX8_trim_1 20 rfl rfl)
theorem dX8_trim_46 : decode cX8_trim 46 = .ok (.return_, 1) := dk_177 (dk_at dksX8_trim_1 23 rfl rfl)
abbrev cX8_multiply : ByteArray := prog_2_method_15_code
def yX8_multiply : MethodName := ⟨RX8, "multiply", "(LLibraryDesk$Big;LLibraryDesk$Big;)V"⟩
def dkwX8_multiply_7 : List UInt8 := [180, 0, 17, 44, 180, 0, 17, 159, 0, 7, 4, 167, 0, 4, 3, 181, 0, 17, 42, 182, 0, 31, 177]
abbrev dktX8_multiply_7 : List UInt8 := dkwX8_multiply_7 ++ []
def dkwX8_multiply_6 : List UInt8 := [21, 4, 44, 180, 0, 13, 96, 22, 5, 136, 79, 132, 4, 1, 167, 255, 138, 42, 29, 181, 0, 13, 42, 43]
abbrev dktX8_multiply_6 : List UInt8 := dkwX8_multiply_6 ++ dktX8_multiply_7
def dkwX8_multiply_5 : List UInt8 := [21, 9, 96, 22, 5, 136, 79, 22, 5, 16, 32, 125, 55, 5, 132, 9, 1, 167, 255, 188, 42, 180, 0, 9]
abbrev dktX8_multiply_5 : List UInt8 := dkwX8_multiply_5 ++ dktX8_multiply_6
def dkwX8_multiply_4 : List UInt8 := [180, 0, 9, 21, 4, 21, 9, 96, 46, 133, 20, 0, 21, 127, 97, 97, 55, 5, 42, 180, 0, 9, 21, 4]
abbrev dktX8_multiply_4 : List UInt8 := dkwX8_multiply_4 ++ dktX8_multiply_5
def dkwX8_multiply_3 : List UInt8 := [180, 0, 13, 162, 0, 65, 22, 5, 22, 7, 44, 180, 0, 9, 21, 9, 46, 133, 20, 0, 21, 127, 105, 42]
abbrev dktX8_multiply_3 : List UInt8 := dkwX8_multiply_3 ++ dktX8_multiply_4
def dkwX8_multiply_2 : List UInt8 := [55, 5, 43, 180, 0, 9, 21, 4, 46, 133, 20, 0, 21, 127, 55, 7, 3, 54, 9, 21, 9, 44]
abbrev dktX8_multiply_2 : List UInt8 := dkwX8_multiply_2 ++ dktX8_multiply_3
def dkwX8_multiply_1 : List UInt8 := [21, 4, 3, 79, 132, 4, 1, 167, 255, 239, 3, 54, 4, 21, 4, 43, 180, 0, 13, 162, 0, 115, 9]
abbrev dktX8_multiply_1 : List UInt8 := dkwX8_multiply_1 ++ dktX8_multiply_2
def dkwX8_multiply_0 : List UInt8 := [43, 180, 0, 13, 44, 180, 0, 13, 96, 62, 3, 54, 4, 21, 4, 29, 162, 0, 17, 42, 180, 0, 9]
abbrev dktX8_multiply_0 : List UInt8 := dkwX8_multiply_0 ++ dktX8_multiply_1
theorem dksX8_multiply_0 : cX8_multiply.data.toList.drop 0 = dktX8_multiply_0 := by decide +kernel
theorem dksX8_multiply_1 : cX8_multiply.data.toList.drop 23 = dktX8_multiply_1 := dk_seg dksX8_multiply_0 23 rfl rfl
theorem dksX8_multiply_2 : cX8_multiply.data.toList.drop 46 = dktX8_multiply_2 := dk_seg dksX8_multiply_1 23 rfl rfl
theorem dksX8_multiply_3 : cX8_multiply.data.toList.drop 68 = dktX8_multiply_3 := dk_seg dksX8_multiply_2 22 rfl rfl
theorem dksX8_multiply_4 : cX8_multiply.data.toList.drop 92 = dktX8_multiply_4 := dk_seg dksX8_multiply_3 24 rfl rfl
theorem dksX8_multiply_5 : cX8_multiply.data.toList.drop 116 = dktX8_multiply_5 := dk_seg dksX8_multiply_4 24 rfl rfl
theorem dksX8_multiply_6 : cX8_multiply.data.toList.drop 140 = dktX8_multiply_6 := dk_seg dksX8_multiply_5 24 rfl rfl
theorem dksX8_multiply_7 : cX8_multiply.data.toList.drop 164 = dktX8_multiply_7 := dk_seg dksX8_multiply_6 24 rfl rfl
theorem dX8_multiply_0 : decode cX8_multiply 0 = .ok (.aload_n 1, 1) := dk_43 (dk_at dksX8_multiply_0 0 rfl rfl)
theorem dX8_multiply_1 : decode cX8_multiply 1 = .ok (.getfield 13, 3) := dk_180 0 13 (dk_at dksX8_multiply_0 1 rfl rfl)
theorem dX8_multiply_4 : decode cX8_multiply 4 = .ok (.aload_n 2, 1) := dk_44 (dk_at dksX8_multiply_0 4 rfl rfl)
theorem dX8_multiply_5 : decode cX8_multiply 5 = .ok (.getfield 13, 3) := dk_180 0 13 (dk_at dksX8_multiply_0 5 rfl rfl)
theorem dX8_multiply_8 : decode cX8_multiply 8 = .ok (.iadd, 1) := dk_96 (dk_at dksX8_multiply_0 8 rfl rfl)
theorem dX8_multiply_9 : decode cX8_multiply 9 = .ok (.istore_n 3, 1) := dk_62 (dk_at dksX8_multiply_0 9 rfl rfl)
theorem dX8_multiply_10 : decode cX8_multiply 10 = .ok (.iconst 0, 1) := dk_3 (dk_at dksX8_multiply_0 10 rfl rfl)
theorem dX8_multiply_11 : decode cX8_multiply 11 = .ok (.istore 4, 2) := dk_54 4 (dk_at dksX8_multiply_0 11 rfl rfl)
theorem dX8_multiply_13 : decode cX8_multiply 13 = .ok (.iload 4, 2) := dk_21 4 (dk_at dksX8_multiply_0 13 rfl rfl)
theorem dX8_multiply_15 : decode cX8_multiply 15 = .ok (.iload_n 3, 1) := dk_29 (dk_at dksX8_multiply_0 15 rfl rfl)
theorem dX8_multiply_16 : decode cX8_multiply 16 = .ok (.if_icmp .ge 17, 3) := dk_162 0 17 (dk_at dksX8_multiply_0 16 rfl rfl)
theorem dX8_multiply_19 : decode cX8_multiply 19 = .ok (.aload_n 0, 1) := dk_42 (dk_at dksX8_multiply_0 19 rfl rfl)
theorem dX8_multiply_20 : decode cX8_multiply 20 = .ok (.getfield 9, 3) := dk_180 0 9 (dk_at dksX8_multiply_0 20 rfl rfl)
theorem dX8_multiply_23 : decode cX8_multiply 23 = .ok (.iload 4, 2) := dk_21 4 (dk_at dksX8_multiply_1 0 rfl rfl)
theorem dX8_multiply_25 : decode cX8_multiply 25 = .ok (.iconst 0, 1) := dk_3 (dk_at dksX8_multiply_1 2 rfl rfl)
theorem dX8_multiply_26 : decode cX8_multiply 26 = .ok (.iastore, 1) := dk_79 (dk_at dksX8_multiply_1 3 rfl rfl)
theorem dX8_multiply_27 : decode cX8_multiply 27 = .ok (.iinc 4 1, 3) := dk_132 4 1 (dk_at dksX8_multiply_1 4 rfl rfl)
theorem dX8_multiply_30 : decode cX8_multiply 30 = .ok (.goto (-17), 3) := dk_167 255 239 (dk_at dksX8_multiply_1 7 rfl rfl)
theorem dX8_multiply_33 : decode cX8_multiply 33 = .ok (.iconst 0, 1) := dk_3 (dk_at dksX8_multiply_1 10 rfl rfl)
theorem dX8_multiply_34 : decode cX8_multiply 34 = .ok (.istore 4, 2) := dk_54 4 (dk_at dksX8_multiply_1 11 rfl rfl)
theorem dX8_multiply_36 : decode cX8_multiply 36 = .ok (.iload 4, 2) := dk_21 4 (dk_at dksX8_multiply_1 13 rfl rfl)
theorem dX8_multiply_38 : decode cX8_multiply 38 = .ok (.aload_n 1, 1) := dk_43 (dk_at dksX8_multiply_1 15 rfl rfl)
theorem dX8_multiply_39 : decode cX8_multiply 39 = .ok (.getfield 13, 3) := dk_180 0 13 (dk_at dksX8_multiply_1 16 rfl rfl)
theorem dX8_multiply_42 : decode cX8_multiply 42 = .ok (.if_icmp .ge 115, 3) := dk_162 0 115 (dk_at dksX8_multiply_1 19 rfl rfl)
theorem dX8_multiply_45 : decode cX8_multiply 45 = .ok (.lconst 0, 1) := dk_9 (dk_at dksX8_multiply_1 22 rfl rfl)
theorem dX8_multiply_46 : decode cX8_multiply 46 = .ok (.lstore 5, 2) := dk_55 5 (dk_at dksX8_multiply_2 0 rfl rfl)
theorem dX8_multiply_48 : decode cX8_multiply 48 = .ok (.aload_n 1, 1) := dk_43 (dk_at dksX8_multiply_2 2 rfl rfl)
theorem dX8_multiply_49 : decode cX8_multiply 49 = .ok (.getfield 9, 3) := dk_180 0 9 (dk_at dksX8_multiply_2 3 rfl rfl)
theorem dX8_multiply_52 : decode cX8_multiply 52 = .ok (.iload 4, 2) := dk_21 4 (dk_at dksX8_multiply_2 6 rfl rfl)
theorem dX8_multiply_54 : decode cX8_multiply 54 = .ok (.iaload, 1) := dk_46 (dk_at dksX8_multiply_2 8 rfl rfl)
theorem dX8_multiply_55 : decode cX8_multiply 55 = .ok (.i2l, 1) := dk_133 (dk_at dksX8_multiply_2 9 rfl rfl)
theorem dX8_multiply_56 : decode cX8_multiply 56 = .ok (.ldc2_w 21, 3) := dk_20 0 21 (dk_at dksX8_multiply_2 10 rfl rfl)
theorem dX8_multiply_59 : decode cX8_multiply 59 = .ok (.land, 1) := dk_127 (dk_at dksX8_multiply_2 13 rfl rfl)
theorem dX8_multiply_60 : decode cX8_multiply 60 = .ok (.lstore 7, 2) := dk_55 7 (dk_at dksX8_multiply_2 14 rfl rfl)
theorem dX8_multiply_62 : decode cX8_multiply 62 = .ok (.iconst 0, 1) := dk_3 (dk_at dksX8_multiply_2 16 rfl rfl)
theorem dX8_multiply_63 : decode cX8_multiply 63 = .ok (.istore 9, 2) := dk_54 9 (dk_at dksX8_multiply_2 17 rfl rfl)
theorem dX8_multiply_65 : decode cX8_multiply 65 = .ok (.iload 9, 2) := dk_21 9 (dk_at dksX8_multiply_2 19 rfl rfl)
theorem dX8_multiply_67 : decode cX8_multiply 67 = .ok (.aload_n 2, 1) := dk_44 (dk_at dksX8_multiply_2 21 rfl rfl)
theorem dX8_multiply_68 : decode cX8_multiply 68 = .ok (.getfield 13, 3) := dk_180 0 13 (dk_at dksX8_multiply_3 0 rfl rfl)
theorem dX8_multiply_71 : decode cX8_multiply 71 = .ok (.if_icmp .ge 65, 3) := dk_162 0 65 (dk_at dksX8_multiply_3 3 rfl rfl)
theorem dX8_multiply_74 : decode cX8_multiply 74 = .ok (.lload 5, 2) := dk_22 5 (dk_at dksX8_multiply_3 6 rfl rfl)
theorem dX8_multiply_76 : decode cX8_multiply 76 = .ok (.lload 7, 2) := dk_22 7 (dk_at dksX8_multiply_3 8 rfl rfl)
theorem dX8_multiply_78 : decode cX8_multiply 78 = .ok (.aload_n 2, 1) := dk_44 (dk_at dksX8_multiply_3 10 rfl rfl)
theorem dX8_multiply_79 : decode cX8_multiply 79 = .ok (.getfield 9, 3) := dk_180 0 9 (dk_at dksX8_multiply_3 11 rfl rfl)
theorem dX8_multiply_82 : decode cX8_multiply 82 = .ok (.iload 9, 2) := dk_21 9 (dk_at dksX8_multiply_3 14 rfl rfl)
theorem dX8_multiply_84 : decode cX8_multiply 84 = .ok (.iaload, 1) := dk_46 (dk_at dksX8_multiply_3 16 rfl rfl)
theorem dX8_multiply_85 : decode cX8_multiply 85 = .ok (.i2l, 1) := dk_133 (dk_at dksX8_multiply_3 17 rfl rfl)
theorem dX8_multiply_86 : decode cX8_multiply 86 = .ok (.ldc2_w 21, 3) := dk_20 0 21 (dk_at dksX8_multiply_3 18 rfl rfl)
theorem dX8_multiply_89 : decode cX8_multiply 89 = .ok (.land, 1) := dk_127 (dk_at dksX8_multiply_3 21 rfl rfl)
theorem dX8_multiply_90 : decode cX8_multiply 90 = .ok (.lmul, 1) := dk_105 (dk_at dksX8_multiply_3 22 rfl rfl)
theorem dX8_multiply_91 : decode cX8_multiply 91 = .ok (.aload_n 0, 1) := dk_42 (dk_at dksX8_multiply_3 23 rfl rfl)
theorem dX8_multiply_92 : decode cX8_multiply 92 = .ok (.getfield 9, 3) := dk_180 0 9 (dk_at dksX8_multiply_4 0 rfl rfl)
theorem dX8_multiply_95 : decode cX8_multiply 95 = .ok (.iload 4, 2) := dk_21 4 (dk_at dksX8_multiply_4 3 rfl rfl)
theorem dX8_multiply_97 : decode cX8_multiply 97 = .ok (.iload 9, 2) := dk_21 9 (dk_at dksX8_multiply_4 5 rfl rfl)
theorem dX8_multiply_99 : decode cX8_multiply 99 = .ok (.iadd, 1) := dk_96 (dk_at dksX8_multiply_4 7 rfl rfl)
theorem dX8_multiply_100 : decode cX8_multiply 100 = .ok (.iaload, 1) := dk_46 (dk_at dksX8_multiply_4 8 rfl rfl)
theorem dX8_multiply_101 : decode cX8_multiply 101 = .ok (.i2l, 1) := dk_133 (dk_at dksX8_multiply_4 9 rfl rfl)
theorem dX8_multiply_102 : decode cX8_multiply 102 = .ok (.ldc2_w 21, 3) := dk_20 0 21 (dk_at dksX8_multiply_4 10 rfl rfl)
theorem dX8_multiply_105 : decode cX8_multiply 105 = .ok (.land, 1) := dk_127 (dk_at dksX8_multiply_4 13 rfl rfl)
theorem dX8_multiply_106 : decode cX8_multiply 106 = .ok (.ladd, 1) := dk_97 (dk_at dksX8_multiply_4 14 rfl rfl)
theorem dX8_multiply_107 : decode cX8_multiply 107 = .ok (.ladd, 1) := dk_97 (dk_at dksX8_multiply_4 15 rfl rfl)
theorem dX8_multiply_108 : decode cX8_multiply 108 = .ok (.lstore 5, 2) := dk_55 5 (dk_at dksX8_multiply_4 16 rfl rfl)
theorem dX8_multiply_110 : decode cX8_multiply 110 = .ok (.aload_n 0, 1) := dk_42 (dk_at dksX8_multiply_4 18 rfl rfl)
theorem dX8_multiply_111 : decode cX8_multiply 111 = .ok (.getfield 9, 3) := dk_180 0 9 (dk_at dksX8_multiply_4 19 rfl rfl)
theorem dX8_multiply_114 : decode cX8_multiply 114 = .ok (.iload 4, 2) := dk_21 4 (dk_at dksX8_multiply_4 22 rfl rfl)
theorem dX8_multiply_116 : decode cX8_multiply 116 = .ok (.iload 9, 2) := dk_21 9 (dk_at dksX8_multiply_5 0 rfl rfl)
theorem dX8_multiply_118 : decode cX8_multiply 118 = .ok (.iadd, 1) := dk_96 (dk_at dksX8_multiply_5 2 rfl rfl)
theorem dX8_multiply_119 : decode cX8_multiply 119 = .ok (.lload 5, 2) := dk_22 5 (dk_at dksX8_multiply_5 3 rfl rfl)
theorem dX8_multiply_121 : decode cX8_multiply 121 = .ok (.l2i, 1) := dk_136 (dk_at dksX8_multiply_5 5 rfl rfl)
theorem dX8_multiply_122 : decode cX8_multiply 122 = .ok (.iastore, 1) := dk_79 (dk_at dksX8_multiply_5 6 rfl rfl)
theorem dX8_multiply_123 : decode cX8_multiply 123 = .ok (.lload 5, 2) := dk_22 5 (dk_at dksX8_multiply_5 7 rfl rfl)
theorem dX8_multiply_125 : decode cX8_multiply 125 = .ok (.bipush 32, 2) := dk_16 32 (dk_at dksX8_multiply_5 9 rfl rfl)
theorem dX8_multiply_127 : decode cX8_multiply 127 = .ok (.lushr, 1) := dk_125 (dk_at dksX8_multiply_5 11 rfl rfl)
theorem dX8_multiply_128 : decode cX8_multiply 128 = .ok (.lstore 5, 2) := dk_55 5 (dk_at dksX8_multiply_5 12 rfl rfl)
theorem dX8_multiply_130 : decode cX8_multiply 130 = .ok (.iinc 9 1, 3) := dk_132 9 1 (dk_at dksX8_multiply_5 14 rfl rfl)
theorem dX8_multiply_133 : decode cX8_multiply 133 = .ok (.goto (-68), 3) := dk_167 255 188 (dk_at dksX8_multiply_5 17 rfl rfl)
theorem dX8_multiply_136 : decode cX8_multiply 136 = .ok (.aload_n 0, 1) := dk_42 (dk_at dksX8_multiply_5 20 rfl rfl)
theorem dX8_multiply_137 : decode cX8_multiply 137 = .ok (.getfield 9, 3) := dk_180 0 9 (dk_at dksX8_multiply_5 21 rfl rfl)
theorem dX8_multiply_140 : decode cX8_multiply 140 = .ok (.iload 4, 2) := dk_21 4 (dk_at dksX8_multiply_6 0 rfl rfl)
theorem dX8_multiply_142 : decode cX8_multiply 142 = .ok (.aload_n 2, 1) := dk_44 (dk_at dksX8_multiply_6 2 rfl rfl)
theorem dX8_multiply_143 : decode cX8_multiply 143 = .ok (.getfield 13, 3) := dk_180 0 13 (dk_at dksX8_multiply_6 3 rfl rfl)
theorem dX8_multiply_146 : decode cX8_multiply 146 = .ok (.iadd, 1) := dk_96 (dk_at dksX8_multiply_6 6 rfl rfl)
theorem dX8_multiply_147 : decode cX8_multiply 147 = .ok (.lload 5, 2) := dk_22 5 (dk_at dksX8_multiply_6 7 rfl rfl)
theorem dX8_multiply_149 : decode cX8_multiply 149 = .ok (.l2i, 1) := dk_136 (dk_at dksX8_multiply_6 9 rfl rfl)
theorem dX8_multiply_150 : decode cX8_multiply 150 = .ok (.iastore, 1) := dk_79 (dk_at dksX8_multiply_6 10 rfl rfl)
theorem dX8_multiply_151 : decode cX8_multiply 151 = .ok (.iinc 4 1, 3) := dk_132 4 1 (dk_at dksX8_multiply_6 11 rfl rfl)
theorem dX8_multiply_154 : decode cX8_multiply 154 = .ok (.goto (-118), 3) := dk_167 255 138 (dk_at dksX8_multiply_6 14 rfl rfl)
theorem dX8_multiply_157 : decode cX8_multiply 157 = .ok (.aload_n 0, 1) := dk_42 (dk_at dksX8_multiply_6 17 rfl rfl)
theorem dX8_multiply_158 : decode cX8_multiply 158 = .ok (.iload_n 3, 1) := dk_29 (dk_at dksX8_multiply_6 18 rfl rfl)
theorem dX8_multiply_159 : decode cX8_multiply 159 = .ok (.putfield 13, 3) := dk_181 0 13 (dk_at dksX8_multiply_6 19 rfl rfl)
theorem dX8_multiply_162 : decode cX8_multiply 162 = .ok (.aload_n 0, 1) := dk_42 (dk_at dksX8_multiply_6 22 rfl rfl)
theorem dX8_multiply_163 : decode cX8_multiply 163 = .ok (.aload_n 1, 1) := dk_43 (dk_at dksX8_multiply_6 23 rfl rfl)
theorem dX8_multiply_164 : decode cX8_multiply 164 = .ok (.getfield 17, 3) := dk_180 0 17 (dk_at dksX8_multiply_7 0 rfl rfl)
theorem dX8_multiply_167 : decode cX8_multiply 167 = .ok (.aload_n 2, 1) := dk_44 (dk_at dksX8_multiply_7 3 rfl rfl)
theorem dX8_multiply_168 : decode cX8_multiply 168 = .ok (.getfield 17, 3) := dk_180 0 17 (dk_at dksX8_multiply_7 4 rfl rfl)
theorem dX8_multiply_171 : decode cX8_multiply 171 = .ok (.if_icmp .eq 7, 3) := dk_159 0 7 (dk_at dksX8_multiply_7 7 rfl rfl)
theorem dX8_multiply_174 : decode cX8_multiply 174 = .ok (.iconst 1, 1) := dk_4 (dk_at dksX8_multiply_7 10 rfl rfl)
theorem dX8_multiply_175 : decode cX8_multiply 175 = .ok (.goto 4, 3) := dk_167 0 4 (dk_at dksX8_multiply_7 11 rfl rfl)
theorem dX8_multiply_178 : decode cX8_multiply 178 = .ok (.iconst 0, 1) := dk_3 (dk_at dksX8_multiply_7 14 rfl rfl)
theorem dX8_multiply_179 : decode cX8_multiply 179 = .ok (.putfield 17, 3) := dk_181 0 17 (dk_at dksX8_multiply_7 15 rfl rfl)
theorem dX8_multiply_182 : decode cX8_multiply 182 = .ok (.aload_n 0, 1) := dk_42 (dk_at dksX8_multiply_7 18 rfl rfl)
theorem dX8_multiply_183 : decode cX8_multiply 183 = .ok (.invokevirtual 31, 3) := dk_182 0 31 (dk_at dksX8_multiply_7 19 rfl rfl)
theorem dX8_multiply_186 : decode cX8_multiply 186 = .ok (.return_, 1) := dk_177 (dk_at dksX8_multiply_7 22 rfl rfl)
abbrev cX8_isZero : ByteArray := prog_2_method_3_code
def yX8_isZero : MethodName := ⟨RX8, "isZero", "()Z"⟩
def dkwX8_isZero_0 : List UInt8 := [42, 180, 0, 13, 154, 0, 7, 4, 167, 0, 4, 3, 172]
abbrev dktX8_isZero_0 : List UInt8 := dkwX8_isZero_0 ++ []
theorem dksX8_isZero_0 : cX8_isZero.data.toList.drop 0 = dktX8_isZero_0 := by decide +kernel
theorem dX8_isZero_0 : decode cX8_isZero 0 = .ok (.aload_n 0, 1) := dk_42 (dk_at dksX8_isZero_0 0 rfl rfl)
theorem dX8_isZero_1 : decode cX8_isZero 1 = .ok (.getfield 13, 3) := dk_180 0 13 (dk_at dksX8_isZero_0 1 rfl rfl)
theorem dX8_isZero_4 : decode cX8_isZero 4 = .ok (.ifCond .ne 7, 3) := dk_154 0 7 (dk_at dksX8_isZero_0 4 rfl rfl)
theorem dX8_isZero_7 : decode cX8_isZero 7 = .ok (.iconst 1, 1) := dk_4 (dk_at dksX8_isZero_0 7 rfl rfl)
theorem dX8_isZero_8 : decode cX8_isZero 8 = .ok (.goto 4, 3) := dk_167 0 4 (dk_at dksX8_isZero_0 8 rfl rfl)
theorem dX8_isZero_11 : decode cX8_isZero 11 = .ok (.iconst 0, 1) := dk_3 (dk_at dksX8_isZero_0 11 rfl rfl)
theorem dX8_isZero_12 : decode cX8_isZero 12 = .ok (.ireturn, 1) := dk_172 (dk_at dksX8_isZero_0 12 rfl rfl)
abbrev cX8_set_2 : ByteArray := prog_2_method_5_code
def yX8_set_2 : MethodName := ⟨RX8, "set", "(LLibraryDesk$Big;)V"⟩
def dkwX8_set_2_1 : List UInt8 := [162, 0, 21, 42, 180, 0, 9, 28, 43, 180, 0, 9, 28, 46, 79, 132, 2, 1, 167, 255, 233, 177]
abbrev dktX8_set_2_1 : List UInt8 := dkwX8_set_2_1 ++ []
def dkwX8_set_2_0 : List UInt8 := [42, 43, 180, 0, 13, 181, 0, 13, 42, 43, 180, 0, 17, 181, 0, 17, 3, 61, 28, 42, 180, 0, 13]
abbrev dktX8_set_2_0 : List UInt8 := dkwX8_set_2_0 ++ dktX8_set_2_1
theorem dksX8_set_2_0 : cX8_set_2.data.toList.drop 0 = dktX8_set_2_0 := by decide +kernel
theorem dksX8_set_2_1 : cX8_set_2.data.toList.drop 23 = dktX8_set_2_1 := dk_seg dksX8_set_2_0 23 rfl rfl
theorem dX8_set_2_0 : decode cX8_set_2 0 = .ok (.aload_n 0, 1) := dk_42 (dk_at dksX8_set_2_0 0 rfl rfl)
theorem dX8_set_2_1 : decode cX8_set_2 1 = .ok (.aload_n 1, 1) := dk_43 (dk_at dksX8_set_2_0 1 rfl rfl)
theorem dX8_set_2_2 : decode cX8_set_2 2 = .ok (.getfield 13, 3) := dk_180 0 13 (dk_at dksX8_set_2_0 2 rfl rfl)
theorem dX8_set_2_5 : decode cX8_set_2 5 = .ok (.putfield 13, 3) := dk_181 0 13 (dk_at dksX8_set_2_0 5 rfl rfl)
theorem dX8_set_2_8 : decode cX8_set_2 8 = .ok (.aload_n 0, 1) := dk_42 (dk_at dksX8_set_2_0 8 rfl rfl)
theorem dX8_set_2_9 : decode cX8_set_2 9 = .ok (.aload_n 1, 1) := dk_43 (dk_at dksX8_set_2_0 9 rfl rfl)
theorem dX8_set_2_10 : decode cX8_set_2 10 = .ok (.getfield 17, 3) := dk_180 0 17 (dk_at dksX8_set_2_0 10 rfl rfl)
theorem dX8_set_2_13 : decode cX8_set_2 13 = .ok (.putfield 17, 3) := dk_181 0 17 (dk_at dksX8_set_2_0 13 rfl rfl)
theorem dX8_set_2_16 : decode cX8_set_2 16 = .ok (.iconst 0, 1) := dk_3 (dk_at dksX8_set_2_0 16 rfl rfl)
theorem dX8_set_2_17 : decode cX8_set_2 17 = .ok (.istore_n 2, 1) := dk_61 (dk_at dksX8_set_2_0 17 rfl rfl)
theorem dX8_set_2_18 : decode cX8_set_2 18 = .ok (.iload_n 2, 1) := dk_28 (dk_at dksX8_set_2_0 18 rfl rfl)
theorem dX8_set_2_19 : decode cX8_set_2 19 = .ok (.aload_n 0, 1) := dk_42 (dk_at dksX8_set_2_0 19 rfl rfl)
theorem dX8_set_2_20 : decode cX8_set_2 20 = .ok (.getfield 13, 3) := dk_180 0 13 (dk_at dksX8_set_2_0 20 rfl rfl)
theorem dX8_set_2_23 : decode cX8_set_2 23 = .ok (.if_icmp .ge 21, 3) := dk_162 0 21 (dk_at dksX8_set_2_1 0 rfl rfl)
theorem dX8_set_2_26 : decode cX8_set_2 26 = .ok (.aload_n 0, 1) := dk_42 (dk_at dksX8_set_2_1 3 rfl rfl)
theorem dX8_set_2_27 : decode cX8_set_2 27 = .ok (.getfield 9, 3) := dk_180 0 9 (dk_at dksX8_set_2_1 4 rfl rfl)
theorem dX8_set_2_30 : decode cX8_set_2 30 = .ok (.iload_n 2, 1) := dk_28 (dk_at dksX8_set_2_1 7 rfl rfl)
theorem dX8_set_2_31 : decode cX8_set_2 31 = .ok (.aload_n 1, 1) := dk_43 (dk_at dksX8_set_2_1 8 rfl rfl)
theorem dX8_set_2_32 : decode cX8_set_2 32 = .ok (.getfield 9, 3) := dk_180 0 9 (dk_at dksX8_set_2_1 9 rfl rfl)
theorem dX8_set_2_35 : decode cX8_set_2 35 = .ok (.iload_n 2, 1) := dk_28 (dk_at dksX8_set_2_1 12 rfl rfl)
theorem dX8_set_2_36 : decode cX8_set_2 36 = .ok (.iaload, 1) := dk_46 (dk_at dksX8_set_2_1 13 rfl rfl)
theorem dX8_set_2_37 : decode cX8_set_2 37 = .ok (.iastore, 1) := dk_79 (dk_at dksX8_set_2_1 14 rfl rfl)
theorem dX8_set_2_38 : decode cX8_set_2 38 = .ok (.iinc 2 1, 3) := dk_132 2 1 (dk_at dksX8_set_2_1 15 rfl rfl)
theorem dX8_set_2_41 : decode cX8_set_2 41 = .ok (.goto (-23), 3) := dk_167 255 233 (dk_at dksX8_set_2_1 18 rfl rfl)
theorem dX8_set_2_44 : decode cX8_set_2 44 = .ok (.return_, 1) := dk_177 (dk_at dksX8_set_2_1 21 rfl rfl)
abbrev cX8_over : ByteArray := prog_2_method_17_code
def yX8_over : MethodName := ⟨RX8, "ove\x72", "(I)I"⟩
def dkwX8_over_2 : List UInt8 := [133, 113, 65, 132, 4, 255, 167, 255, 213, 42, 182, 0, 31, 32, 136, 172]
abbrev dktX8_over_2 : List UInt8 := dkwX8_over_2 ++ []
def dkwX8_over_1 : List UInt8 := [21, 4, 46, 133, 20, 0, 21, 127, 129, 65, 42, 180, 0, 9, 21, 4, 32, 27, 133, 109, 136, 79, 32, 27]
abbrev dktX8_over_1 : List UInt8 := dkwX8_over_1 ++ dktX8_over_2
def dkwX8_over_0 : List UInt8 := [9, 65, 42, 180, 0, 13, 4, 100, 54, 4, 21, 4, 155, 0, 44, 32, 16, 32, 121, 42, 180, 0, 9]
abbrev dktX8_over_0 : List UInt8 := dkwX8_over_0 ++ dktX8_over_1
theorem dksX8_over_0 : cX8_over.data.toList.drop 0 = dktX8_over_0 := by decide +kernel
theorem dksX8_over_1 : cX8_over.data.toList.drop 23 = dktX8_over_1 := dk_seg dksX8_over_0 23 rfl rfl
theorem dksX8_over_2 : cX8_over.data.toList.drop 47 = dktX8_over_2 := dk_seg dksX8_over_1 24 rfl rfl
theorem dX8_over_0 : decode cX8_over 0 = .ok (.lconst 0, 1) := dk_9 (dk_at dksX8_over_0 0 rfl rfl)
theorem dX8_over_1 : decode cX8_over 1 = .ok (.lstore_n 2, 1) := dk_65 (dk_at dksX8_over_0 1 rfl rfl)
theorem dX8_over_2 : decode cX8_over 2 = .ok (.aload_n 0, 1) := dk_42 (dk_at dksX8_over_0 2 rfl rfl)
theorem dX8_over_3 : decode cX8_over 3 = .ok (.getfield 13, 3) := dk_180 0 13 (dk_at dksX8_over_0 3 rfl rfl)
theorem dX8_over_6 : decode cX8_over 6 = .ok (.iconst 1, 1) := dk_4 (dk_at dksX8_over_0 6 rfl rfl)
theorem dX8_over_7 : decode cX8_over 7 = .ok (.isub, 1) := dk_100 (dk_at dksX8_over_0 7 rfl rfl)
theorem dX8_over_8 : decode cX8_over 8 = .ok (.istore 4, 2) := dk_54 4 (dk_at dksX8_over_0 8 rfl rfl)
theorem dX8_over_10 : decode cX8_over 10 = .ok (.iload 4, 2) := dk_21 4 (dk_at dksX8_over_0 10 rfl rfl)
theorem dX8_over_12 : decode cX8_over 12 = .ok (.ifCond .lt 44, 3) := dk_155 0 44 (dk_at dksX8_over_0 12 rfl rfl)
theorem dX8_over_15 : decode cX8_over 15 = .ok (.lload_n 2, 1) := dk_32 (dk_at dksX8_over_0 15 rfl rfl)
theorem dX8_over_16 : decode cX8_over 16 = .ok (.bipush 32, 2) := dk_16 32 (dk_at dksX8_over_0 16 rfl rfl)
theorem dX8_over_18 : decode cX8_over 18 = .ok (.lshl, 1) := dk_121 (dk_at dksX8_over_0 18 rfl rfl)
theorem dX8_over_19 : decode cX8_over 19 = .ok (.aload_n 0, 1) := dk_42 (dk_at dksX8_over_0 19 rfl rfl)
theorem dX8_over_20 : decode cX8_over 20 = .ok (.getfield 9, 3) := dk_180 0 9 (dk_at dksX8_over_0 20 rfl rfl)
theorem dX8_over_23 : decode cX8_over 23 = .ok (.iload 4, 2) := dk_21 4 (dk_at dksX8_over_1 0 rfl rfl)
theorem dX8_over_25 : decode cX8_over 25 = .ok (.iaload, 1) := dk_46 (dk_at dksX8_over_1 2 rfl rfl)
theorem dX8_over_26 : decode cX8_over 26 = .ok (.i2l, 1) := dk_133 (dk_at dksX8_over_1 3 rfl rfl)
theorem dX8_over_27 : decode cX8_over 27 = .ok (.ldc2_w 21, 3) := dk_20 0 21 (dk_at dksX8_over_1 4 rfl rfl)
theorem dX8_over_30 : decode cX8_over 30 = .ok (.land, 1) := dk_127 (dk_at dksX8_over_1 7 rfl rfl)
theorem dX8_over_31 : decode cX8_over 31 = .ok (.lor, 1) := dk_129 (dk_at dksX8_over_1 8 rfl rfl)
theorem dX8_over_32 : decode cX8_over 32 = .ok (.lstore_n 2, 1) := dk_65 (dk_at dksX8_over_1 9 rfl rfl)
theorem dX8_over_33 : decode cX8_over 33 = .ok (.aload_n 0, 1) := dk_42 (dk_at dksX8_over_1 10 rfl rfl)
theorem dX8_over_34 : decode cX8_over 34 = .ok (.getfield 9, 3) := dk_180 0 9 (dk_at dksX8_over_1 11 rfl rfl)
theorem dX8_over_37 : decode cX8_over 37 = .ok (.iload 4, 2) := dk_21 4 (dk_at dksX8_over_1 14 rfl rfl)
theorem dX8_over_39 : decode cX8_over 39 = .ok (.lload_n 2, 1) := dk_32 (dk_at dksX8_over_1 16 rfl rfl)
theorem dX8_over_40 : decode cX8_over 40 = .ok (.iload_n 1, 1) := dk_27 (dk_at dksX8_over_1 17 rfl rfl)
theorem dX8_over_41 : decode cX8_over 41 = .ok (.i2l, 1) := dk_133 (dk_at dksX8_over_1 18 rfl rfl)
theorem dX8_over_42 : decode cX8_over 42 = .ok (.ldiv, 1) := dk_109 (dk_at dksX8_over_1 19 rfl rfl)
theorem dX8_over_43 : decode cX8_over 43 = .ok (.l2i, 1) := dk_136 (dk_at dksX8_over_1 20 rfl rfl)
theorem dX8_over_44 : decode cX8_over 44 = .ok (.iastore, 1) := dk_79 (dk_at dksX8_over_1 21 rfl rfl)
theorem dX8_over_45 : decode cX8_over 45 = .ok (.lload_n 2, 1) := dk_32 (dk_at dksX8_over_1 22 rfl rfl)
theorem dX8_over_46 : decode cX8_over 46 = .ok (.iload_n 1, 1) := dk_27 (dk_at dksX8_over_1 23 rfl rfl)
theorem dX8_over_47 : decode cX8_over 47 = .ok (.i2l, 1) := dk_133 (dk_at dksX8_over_2 0 rfl rfl)
theorem dX8_over_48 : decode cX8_over 48 = .ok (.lrem, 1) := dk_113 (dk_at dksX8_over_2 1 rfl rfl)
theorem dX8_over_49 : decode cX8_over 49 = .ok (.lstore_n 2, 1) := dk_65 (dk_at dksX8_over_2 2 rfl rfl)
theorem dX8_over_50 : decode cX8_over 50 = .ok (.iinc 4 (-1), 3) := dk_132 4 255 (dk_at dksX8_over_2 3 rfl rfl)
theorem dX8_over_53 : decode cX8_over 53 = .ok (.goto (-43), 3) := dk_167 255 213 (dk_at dksX8_over_2 6 rfl rfl)
theorem dX8_over_56 : decode cX8_over 56 = .ok (.aload_n 0, 1) := dk_42 (dk_at dksX8_over_2 9 rfl rfl)
theorem dX8_over_57 : decode cX8_over 57 = .ok (.invokevirtual 31, 3) := dk_182 0 31 (dk_at dksX8_over_2 10 rfl rfl)
theorem dX8_over_60 : decode cX8_over 60 = .ok (.lload_n 2, 1) := dk_32 (dk_at dksX8_over_2 13 rfl rfl)
theorem dX8_over_61 : decode cX8_over 61 = .ok (.l2i, 1) := dk_136 (dk_at dksX8_over_2 14 rfl rfl)
theorem dX8_over_62 : decode cX8_over 62 = .ok (.ireturn, 1) := dk_172 (dk_at dksX8_over_2 15 rfl rfl)
abbrev cX8_length : ByteArray := prog_2_method_8_code
def yX8_length : MethodName := ⟨RX8, "length", "()I"⟩
def dkwX8_length_1 : List UInt8 := [180, 0, 13, 4, 100, 46, 61, 28, 153, 0, 13, 132, 1, 1, 28, 4, 124, 61, 167, 255, 245, 27, 172]
abbrev dktX8_length_1 : List UInt8 := dkwX8_length_1 ++ []
def dkwX8_length_0 : List UInt8 := [42, 180, 0, 13, 154, 0, 5, 3, 172, 16, 32, 42, 180, 0, 13, 4, 100, 104, 60, 42, 180, 0, 9, 42]
abbrev dktX8_length_0 : List UInt8 := dkwX8_length_0 ++ dktX8_length_1
theorem dksX8_length_0 : cX8_length.data.toList.drop 0 = dktX8_length_0 := by decide +kernel
theorem dksX8_length_1 : cX8_length.data.toList.drop 24 = dktX8_length_1 := dk_seg dksX8_length_0 24 rfl rfl
theorem dX8_length_0 : decode cX8_length 0 = .ok (.aload_n 0, 1) := dk_42 (dk_at dksX8_length_0 0 rfl rfl)
theorem dX8_length_1 : decode cX8_length 1 = .ok (.getfield 13, 3) := dk_180 0 13 (dk_at dksX8_length_0 1 rfl rfl)
theorem dX8_length_4 : decode cX8_length 4 = .ok (.ifCond .ne 5, 3) := dk_154 0 5 (dk_at dksX8_length_0 4 rfl rfl)
theorem dX8_length_7 : decode cX8_length 7 = .ok (.iconst 0, 1) := dk_3 (dk_at dksX8_length_0 7 rfl rfl)
theorem dX8_length_8 : decode cX8_length 8 = .ok (.ireturn, 1) := dk_172 (dk_at dksX8_length_0 8 rfl rfl)
theorem dX8_length_9 : decode cX8_length 9 = .ok (.bipush 32, 2) := dk_16 32 (dk_at dksX8_length_0 9 rfl rfl)
theorem dX8_length_11 : decode cX8_length 11 = .ok (.aload_n 0, 1) := dk_42 (dk_at dksX8_length_0 11 rfl rfl)
theorem dX8_length_12 : decode cX8_length 12 = .ok (.getfield 13, 3) := dk_180 0 13 (dk_at dksX8_length_0 12 rfl rfl)
theorem dX8_length_15 : decode cX8_length 15 = .ok (.iconst 1, 1) := dk_4 (dk_at dksX8_length_0 15 rfl rfl)
theorem dX8_length_16 : decode cX8_length 16 = .ok (.isub, 1) := dk_100 (dk_at dksX8_length_0 16 rfl rfl)
theorem dX8_length_17 : decode cX8_length 17 = .ok (.imul, 1) := dk_104 (dk_at dksX8_length_0 17 rfl rfl)
theorem dX8_length_18 : decode cX8_length 18 = .ok (.istore_n 1, 1) := dk_60 (dk_at dksX8_length_0 18 rfl rfl)
theorem dX8_length_19 : decode cX8_length 19 = .ok (.aload_n 0, 1) := dk_42 (dk_at dksX8_length_0 19 rfl rfl)
theorem dX8_length_20 : decode cX8_length 20 = .ok (.getfield 9, 3) := dk_180 0 9 (dk_at dksX8_length_0 20 rfl rfl)
theorem dX8_length_23 : decode cX8_length 23 = .ok (.aload_n 0, 1) := dk_42 (dk_at dksX8_length_0 23 rfl rfl)
theorem dX8_length_24 : decode cX8_length 24 = .ok (.getfield 13, 3) := dk_180 0 13 (dk_at dksX8_length_1 0 rfl rfl)
theorem dX8_length_27 : decode cX8_length 27 = .ok (.iconst 1, 1) := dk_4 (dk_at dksX8_length_1 3 rfl rfl)
theorem dX8_length_28 : decode cX8_length 28 = .ok (.isub, 1) := dk_100 (dk_at dksX8_length_1 4 rfl rfl)
theorem dX8_length_29 : decode cX8_length 29 = .ok (.iaload, 1) := dk_46 (dk_at dksX8_length_1 5 rfl rfl)
theorem dX8_length_30 : decode cX8_length 30 = .ok (.istore_n 2, 1) := dk_61 (dk_at dksX8_length_1 6 rfl rfl)
theorem dX8_length_31 : decode cX8_length 31 = .ok (.iload_n 2, 1) := dk_28 (dk_at dksX8_length_1 7 rfl rfl)
theorem dX8_length_32 : decode cX8_length 32 = .ok (.ifCond .eq 13, 3) := dk_153 0 13 (dk_at dksX8_length_1 8 rfl rfl)
theorem dX8_length_35 : decode cX8_length 35 = .ok (.iinc 1 1, 3) := dk_132 1 1 (dk_at dksX8_length_1 11 rfl rfl)
theorem dX8_length_38 : decode cX8_length 38 = .ok (.iload_n 2, 1) := dk_28 (dk_at dksX8_length_1 14 rfl rfl)
theorem dX8_length_39 : decode cX8_length 39 = .ok (.iconst 1, 1) := dk_4 (dk_at dksX8_length_1 15 rfl rfl)
theorem dX8_length_40 : decode cX8_length 40 = .ok (.iushr, 1) := dk_124 (dk_at dksX8_length_1 16 rfl rfl)
theorem dX8_length_41 : decode cX8_length 41 = .ok (.istore_n 2, 1) := dk_61 (dk_at dksX8_length_1 17 rfl rfl)
theorem dX8_length_42 : decode cX8_length 42 = .ok (.goto (-11), 3) := dk_167 255 245 (dk_at dksX8_length_1 18 rfl rfl)
theorem dX8_length_45 : decode cX8_length 45 = .ok (.iload_n 1, 1) := dk_27 (dk_at dksX8_length_1 21 rfl rfl)
theorem dX8_length_46 : decode cX8_length 46 = .ok (.ireturn, 1) := dk_172 (dk_at dksX8_length_1 22 rfl rfl)
abbrev cX8_shiftLeft : ByteArray := prog_2_method_18_code
def yX8_shiftLeft : MethodName := ⟨RX8, "shiftLeft", "(I)V"⟩
def dkwX8_shiftLeft_6 : List UInt8 := [182, 0, 31, 177]
abbrev dktX8_shiftLeft_6 : List UInt8 := dkwX8_shiftLeft_6 ++ []
def dkwX8_shiftLeft_5 : List UInt8 := [21, 4, 3, 79, 132, 4, 1, 167, 255, 239, 42, 89, 180, 0, 13, 28, 4, 96, 96, 181, 0, 13, 42]
abbrev dktX8_shiftLeft_5 : List UInt8 := dkwX8_shiftLeft_5 ++ dktX8_shiftLeft_6
def dkwX8_shiftLeft_4 : List UInt8 := [16, 32, 125, 136, 79, 132, 4, 255, 167, 255, 190, 3, 54, 4, 21, 4, 28, 162, 0, 17, 42, 180, 0, 9]
abbrev dktX8_shiftLeft_4 : List UInt8 := dkwX8_shiftLeft_4 ++ dktX8_shiftLeft_5
def dkwX8_shiftLeft_3 : List UInt8 := [20, 0, 21, 127, 167, 0, 4, 9, 129, 55, 5, 42, 180, 0, 9, 21, 4, 28, 96, 22, 5, 29, 121]
abbrev dktX8_shiftLeft_3 : List UInt8 := dkwX8_shiftLeft_3 ++ dktX8_shiftLeft_4
def dkwX8_shiftLeft_2 : List UInt8 := [20, 0, 21, 127, 16, 32, 121, 21, 4, 158, 0, 20, 42, 180, 0, 9, 21, 4, 4, 100, 46, 133]
abbrev dktX8_shiftLeft_2 : List UInt8 := dkwX8_shiftLeft_2 ++ dktX8_shiftLeft_3
def dkwX8_shiftLeft_1 : List UInt8 := [180, 0, 13, 3, 79, 42, 180, 0, 13, 54, 4, 21, 4, 155, 0, 67, 42, 180, 0, 9, 21, 4, 46, 133]
abbrev dktX8_shiftLeft_1 : List UInt8 := dkwX8_shiftLeft_1 ++ dktX8_shiftLeft_2
def dkwX8_shiftLeft_0 : List UInt8 := [27, 8, 122, 61, 27, 16, 31, 126, 62, 42, 180, 0, 13, 154, 0, 4, 177, 42, 180, 0, 9, 42]
abbrev dktX8_shiftLeft_0 : List UInt8 := dkwX8_shiftLeft_0 ++ dktX8_shiftLeft_1
theorem dksX8_shiftLeft_0 : cX8_shiftLeft.data.toList.drop 0 = dktX8_shiftLeft_0 := by decide +kernel
theorem dksX8_shiftLeft_1 : cX8_shiftLeft.data.toList.drop 22 = dktX8_shiftLeft_1 := dk_seg dksX8_shiftLeft_0 22 rfl rfl
theorem dksX8_shiftLeft_2 : cX8_shiftLeft.data.toList.drop 46 = dktX8_shiftLeft_2 := dk_seg dksX8_shiftLeft_1 24 rfl rfl
theorem dksX8_shiftLeft_3 : cX8_shiftLeft.data.toList.drop 68 = dktX8_shiftLeft_3 := dk_seg dksX8_shiftLeft_2 22 rfl rfl
theorem dksX8_shiftLeft_4 : cX8_shiftLeft.data.toList.drop 91 = dktX8_shiftLeft_4 := dk_seg dksX8_shiftLeft_3 23 rfl rfl
theorem dksX8_shiftLeft_5 : cX8_shiftLeft.data.toList.drop 115 = dktX8_shiftLeft_5 := dk_seg dksX8_shiftLeft_4 24 rfl rfl
theorem dksX8_shiftLeft_6 : cX8_shiftLeft.data.toList.drop 138 = dktX8_shiftLeft_6 := dk_seg dksX8_shiftLeft_5 23 rfl rfl
theorem dX8_shiftLeft_0 : decode cX8_shiftLeft 0 = .ok (.iload_n 1, 1) := dk_27 (dk_at dksX8_shiftLeft_0 0 rfl rfl)
theorem dX8_shiftLeft_1 : decode cX8_shiftLeft 1 = .ok (.iconst 5, 1) := dk_8 (dk_at dksX8_shiftLeft_0 1 rfl rfl)
theorem dX8_shiftLeft_2 : decode cX8_shiftLeft 2 = .ok (.ishr, 1) := dk_122 (dk_at dksX8_shiftLeft_0 2 rfl rfl)
theorem dX8_shiftLeft_3 : decode cX8_shiftLeft 3 = .ok (.istore_n 2, 1) := dk_61 (dk_at dksX8_shiftLeft_0 3 rfl rfl)
theorem dX8_shiftLeft_4 : decode cX8_shiftLeft 4 = .ok (.iload_n 1, 1) := dk_27 (dk_at dksX8_shiftLeft_0 4 rfl rfl)
theorem dX8_shiftLeft_5 : decode cX8_shiftLeft 5 = .ok (.bipush 31, 2) := dk_16 31 (dk_at dksX8_shiftLeft_0 5 rfl rfl)
theorem dX8_shiftLeft_7 : decode cX8_shiftLeft 7 = .ok (.iand, 1) := dk_126 (dk_at dksX8_shiftLeft_0 7 rfl rfl)
theorem dX8_shiftLeft_8 : decode cX8_shiftLeft 8 = .ok (.istore_n 3, 1) := dk_62 (dk_at dksX8_shiftLeft_0 8 rfl rfl)
theorem dX8_shiftLeft_9 : decode cX8_shiftLeft 9 = .ok (.aload_n 0, 1) := dk_42 (dk_at dksX8_shiftLeft_0 9 rfl rfl)
theorem dX8_shiftLeft_10 : decode cX8_shiftLeft 10 = .ok (.getfield 13, 3) := dk_180 0 13 (dk_at dksX8_shiftLeft_0 10 rfl rfl)
theorem dX8_shiftLeft_13 : decode cX8_shiftLeft 13 = .ok (.ifCond .ne 4, 3) := dk_154 0 4 (dk_at dksX8_shiftLeft_0 13 rfl rfl)
theorem dX8_shiftLeft_16 : decode cX8_shiftLeft 16 = .ok (.return_, 1) := dk_177 (dk_at dksX8_shiftLeft_0 16 rfl rfl)
theorem dX8_shiftLeft_17 : decode cX8_shiftLeft 17 = .ok (.aload_n 0, 1) := dk_42 (dk_at dksX8_shiftLeft_0 17 rfl rfl)
theorem dX8_shiftLeft_18 : decode cX8_shiftLeft 18 = .ok (.getfield 9, 3) := dk_180 0 9 (dk_at dksX8_shiftLeft_0 18 rfl rfl)
theorem dX8_shiftLeft_21 : decode cX8_shiftLeft 21 = .ok (.aload_n 0, 1) := dk_42 (dk_at dksX8_shiftLeft_0 21 rfl rfl)
theorem dX8_shiftLeft_22 : decode cX8_shiftLeft 22 = .ok (.getfield 13, 3) := dk_180 0 13 (dk_at dksX8_shiftLeft_1 0 rfl rfl)
theorem dX8_shiftLeft_25 : decode cX8_shiftLeft 25 = .ok (.iconst 0, 1) := dk_3 (dk_at dksX8_shiftLeft_1 3 rfl rfl)
theorem dX8_shiftLeft_26 : decode cX8_shiftLeft 26 = .ok (.iastore, 1) := dk_79 (dk_at dksX8_shiftLeft_1 4 rfl rfl)
theorem dX8_shiftLeft_27 : decode cX8_shiftLeft 27 = .ok (.aload_n 0, 1) := dk_42 (dk_at dksX8_shiftLeft_1 5 rfl rfl)
theorem dX8_shiftLeft_28 : decode cX8_shiftLeft 28 = .ok (.getfield 13, 3) := dk_180 0 13 (dk_at dksX8_shiftLeft_1 6 rfl rfl)
theorem dX8_shiftLeft_31 : decode cX8_shiftLeft 31 = .ok (.istore 4, 2) := dk_54 4 (dk_at dksX8_shiftLeft_1 9 rfl rfl)
theorem dX8_shiftLeft_33 : decode cX8_shiftLeft 33 = .ok (.iload 4, 2) := dk_21 4 (dk_at dksX8_shiftLeft_1 11 rfl rfl)
theorem dX8_shiftLeft_35 : decode cX8_shiftLeft 35 = .ok (.ifCond .lt 67, 3) := dk_155 0 67 (dk_at dksX8_shiftLeft_1 13 rfl rfl)
theorem dX8_shiftLeft_38 : decode cX8_shiftLeft 38 = .ok (.aload_n 0, 1) := dk_42 (dk_at dksX8_shiftLeft_1 16 rfl rfl)
theorem dX8_shiftLeft_39 : decode cX8_shiftLeft 39 = .ok (.getfield 9, 3) := dk_180 0 9 (dk_at dksX8_shiftLeft_1 17 rfl rfl)
theorem dX8_shiftLeft_42 : decode cX8_shiftLeft 42 = .ok (.iload 4, 2) := dk_21 4 (dk_at dksX8_shiftLeft_1 20 rfl rfl)
theorem dX8_shiftLeft_44 : decode cX8_shiftLeft 44 = .ok (.iaload, 1) := dk_46 (dk_at dksX8_shiftLeft_1 22 rfl rfl)
theorem dX8_shiftLeft_45 : decode cX8_shiftLeft 45 = .ok (.i2l, 1) := dk_133 (dk_at dksX8_shiftLeft_1 23 rfl rfl)
theorem dX8_shiftLeft_46 : decode cX8_shiftLeft 46 = .ok (.ldc2_w 21, 3) := dk_20 0 21 (dk_at dksX8_shiftLeft_2 0 rfl rfl)
theorem dX8_shiftLeft_49 : decode cX8_shiftLeft 49 = .ok (.land, 1) := dk_127 (dk_at dksX8_shiftLeft_2 3 rfl rfl)
theorem dX8_shiftLeft_50 : decode cX8_shiftLeft 50 = .ok (.bipush 32, 2) := dk_16 32 (dk_at dksX8_shiftLeft_2 4 rfl rfl)
theorem dX8_shiftLeft_52 : decode cX8_shiftLeft 52 = .ok (.lshl, 1) := dk_121 (dk_at dksX8_shiftLeft_2 6 rfl rfl)
theorem dX8_shiftLeft_53 : decode cX8_shiftLeft 53 = .ok (.iload 4, 2) := dk_21 4 (dk_at dksX8_shiftLeft_2 7 rfl rfl)
theorem dX8_shiftLeft_55 : decode cX8_shiftLeft 55 = .ok (.ifCond .le 20, 3) := dk_158 0 20 (dk_at dksX8_shiftLeft_2 9 rfl rfl)
theorem dX8_shiftLeft_58 : decode cX8_shiftLeft 58 = .ok (.aload_n 0, 1) := dk_42 (dk_at dksX8_shiftLeft_2 12 rfl rfl)
theorem dX8_shiftLeft_59 : decode cX8_shiftLeft 59 = .ok (.getfield 9, 3) := dk_180 0 9 (dk_at dksX8_shiftLeft_2 13 rfl rfl)
theorem dX8_shiftLeft_62 : decode cX8_shiftLeft 62 = .ok (.iload 4, 2) := dk_21 4 (dk_at dksX8_shiftLeft_2 16 rfl rfl)
theorem dX8_shiftLeft_64 : decode cX8_shiftLeft 64 = .ok (.iconst 1, 1) := dk_4 (dk_at dksX8_shiftLeft_2 18 rfl rfl)
theorem dX8_shiftLeft_65 : decode cX8_shiftLeft 65 = .ok (.isub, 1) := dk_100 (dk_at dksX8_shiftLeft_2 19 rfl rfl)
theorem dX8_shiftLeft_66 : decode cX8_shiftLeft 66 = .ok (.iaload, 1) := dk_46 (dk_at dksX8_shiftLeft_2 20 rfl rfl)
theorem dX8_shiftLeft_67 : decode cX8_shiftLeft 67 = .ok (.i2l, 1) := dk_133 (dk_at dksX8_shiftLeft_2 21 rfl rfl)
theorem dX8_shiftLeft_68 : decode cX8_shiftLeft 68 = .ok (.ldc2_w 21, 3) := dk_20 0 21 (dk_at dksX8_shiftLeft_3 0 rfl rfl)
theorem dX8_shiftLeft_71 : decode cX8_shiftLeft 71 = .ok (.land, 1) := dk_127 (dk_at dksX8_shiftLeft_3 3 rfl rfl)
theorem dX8_shiftLeft_72 : decode cX8_shiftLeft 72 = .ok (.goto 4, 3) := dk_167 0 4 (dk_at dksX8_shiftLeft_3 4 rfl rfl)
theorem dX8_shiftLeft_75 : decode cX8_shiftLeft 75 = .ok (.lconst 0, 1) := dk_9 (dk_at dksX8_shiftLeft_3 7 rfl rfl)
theorem dX8_shiftLeft_76 : decode cX8_shiftLeft 76 = .ok (.lor, 1) := dk_129 (dk_at dksX8_shiftLeft_3 8 rfl rfl)
theorem dX8_shiftLeft_77 : decode cX8_shiftLeft 77 = .ok (.lstore 5, 2) := dk_55 5 (dk_at dksX8_shiftLeft_3 9 rfl rfl)
theorem dX8_shiftLeft_79 : decode cX8_shiftLeft 79 = .ok (.aload_n 0, 1) := dk_42 (dk_at dksX8_shiftLeft_3 11 rfl rfl)
theorem dX8_shiftLeft_80 : decode cX8_shiftLeft 80 = .ok (.getfield 9, 3) := dk_180 0 9 (dk_at dksX8_shiftLeft_3 12 rfl rfl)
theorem dX8_shiftLeft_83 : decode cX8_shiftLeft 83 = .ok (.iload 4, 2) := dk_21 4 (dk_at dksX8_shiftLeft_3 15 rfl rfl)
theorem dX8_shiftLeft_85 : decode cX8_shiftLeft 85 = .ok (.iload_n 2, 1) := dk_28 (dk_at dksX8_shiftLeft_3 17 rfl rfl)
theorem dX8_shiftLeft_86 : decode cX8_shiftLeft 86 = .ok (.iadd, 1) := dk_96 (dk_at dksX8_shiftLeft_3 18 rfl rfl)
theorem dX8_shiftLeft_87 : decode cX8_shiftLeft 87 = .ok (.lload 5, 2) := dk_22 5 (dk_at dksX8_shiftLeft_3 19 rfl rfl)
theorem dX8_shiftLeft_89 : decode cX8_shiftLeft 89 = .ok (.iload_n 3, 1) := dk_29 (dk_at dksX8_shiftLeft_3 21 rfl rfl)
theorem dX8_shiftLeft_90 : decode cX8_shiftLeft 90 = .ok (.lshl, 1) := dk_121 (dk_at dksX8_shiftLeft_3 22 rfl rfl)
theorem dX8_shiftLeft_91 : decode cX8_shiftLeft 91 = .ok (.bipush 32, 2) := dk_16 32 (dk_at dksX8_shiftLeft_4 0 rfl rfl)
theorem dX8_shiftLeft_93 : decode cX8_shiftLeft 93 = .ok (.lushr, 1) := dk_125 (dk_at dksX8_shiftLeft_4 2 rfl rfl)
theorem dX8_shiftLeft_94 : decode cX8_shiftLeft 94 = .ok (.l2i, 1) := dk_136 (dk_at dksX8_shiftLeft_4 3 rfl rfl)
theorem dX8_shiftLeft_95 : decode cX8_shiftLeft 95 = .ok (.iastore, 1) := dk_79 (dk_at dksX8_shiftLeft_4 4 rfl rfl)
theorem dX8_shiftLeft_96 : decode cX8_shiftLeft 96 = .ok (.iinc 4 (-1), 3) := dk_132 4 255 (dk_at dksX8_shiftLeft_4 5 rfl rfl)
theorem dX8_shiftLeft_99 : decode cX8_shiftLeft 99 = .ok (.goto (-66), 3) := dk_167 255 190 (dk_at dksX8_shiftLeft_4 8 rfl rfl)
theorem dX8_shiftLeft_102 : decode cX8_shiftLeft 102 = .ok (.iconst 0, 1) := dk_3 (dk_at dksX8_shiftLeft_4 11 rfl rfl)
theorem dX8_shiftLeft_103 : decode cX8_shiftLeft 103 = .ok (.istore 4, 2) := dk_54 4 (dk_at dksX8_shiftLeft_4 12 rfl rfl)
theorem dX8_shiftLeft_105 : decode cX8_shiftLeft 105 = .ok (.iload 4, 2) := dk_21 4 (dk_at dksX8_shiftLeft_4 14 rfl rfl)
theorem dX8_shiftLeft_107 : decode cX8_shiftLeft 107 = .ok (.iload_n 2, 1) := dk_28 (dk_at dksX8_shiftLeft_4 16 rfl rfl)
theorem dX8_shiftLeft_108 : decode cX8_shiftLeft 108 = .ok (.if_icmp .ge 17, 3) := dk_162 0 17 (dk_at dksX8_shiftLeft_4 17 rfl rfl)
theorem dX8_shiftLeft_111 : decode cX8_shiftLeft 111 = .ok (.aload_n 0, 1) := dk_42 (dk_at dksX8_shiftLeft_4 20 rfl rfl)
theorem dX8_shiftLeft_112 : decode cX8_shiftLeft 112 = .ok (.getfield 9, 3) := dk_180 0 9 (dk_at dksX8_shiftLeft_4 21 rfl rfl)
theorem dX8_shiftLeft_115 : decode cX8_shiftLeft 115 = .ok (.iload 4, 2) := dk_21 4 (dk_at dksX8_shiftLeft_5 0 rfl rfl)
theorem dX8_shiftLeft_117 : decode cX8_shiftLeft 117 = .ok (.iconst 0, 1) := dk_3 (dk_at dksX8_shiftLeft_5 2 rfl rfl)
theorem dX8_shiftLeft_118 : decode cX8_shiftLeft 118 = .ok (.iastore, 1) := dk_79 (dk_at dksX8_shiftLeft_5 3 rfl rfl)
theorem dX8_shiftLeft_119 : decode cX8_shiftLeft 119 = .ok (.iinc 4 1, 3) := dk_132 4 1 (dk_at dksX8_shiftLeft_5 4 rfl rfl)
theorem dX8_shiftLeft_122 : decode cX8_shiftLeft 122 = .ok (.goto (-17), 3) := dk_167 255 239 (dk_at dksX8_shiftLeft_5 7 rfl rfl)
theorem dX8_shiftLeft_125 : decode cX8_shiftLeft 125 = .ok (.aload_n 0, 1) := dk_42 (dk_at dksX8_shiftLeft_5 10 rfl rfl)
theorem dX8_shiftLeft_126 : decode cX8_shiftLeft 126 = .ok (.dup, 1) := dk_89 (dk_at dksX8_shiftLeft_5 11 rfl rfl)
theorem dX8_shiftLeft_127 : decode cX8_shiftLeft 127 = .ok (.getfield 13, 3) := dk_180 0 13 (dk_at dksX8_shiftLeft_5 12 rfl rfl)
theorem dX8_shiftLeft_130 : decode cX8_shiftLeft 130 = .ok (.iload_n 2, 1) := dk_28 (dk_at dksX8_shiftLeft_5 15 rfl rfl)
theorem dX8_shiftLeft_131 : decode cX8_shiftLeft 131 = .ok (.iconst 1, 1) := dk_4 (dk_at dksX8_shiftLeft_5 16 rfl rfl)
theorem dX8_shiftLeft_132 : decode cX8_shiftLeft 132 = .ok (.iadd, 1) := dk_96 (dk_at dksX8_shiftLeft_5 17 rfl rfl)
theorem dX8_shiftLeft_133 : decode cX8_shiftLeft 133 = .ok (.iadd, 1) := dk_96 (dk_at dksX8_shiftLeft_5 18 rfl rfl)
theorem dX8_shiftLeft_134 : decode cX8_shiftLeft 134 = .ok (.putfield 13, 3) := dk_181 0 13 (dk_at dksX8_shiftLeft_5 19 rfl rfl)
theorem dX8_shiftLeft_137 : decode cX8_shiftLeft 137 = .ok (.aload_n 0, 1) := dk_42 (dk_at dksX8_shiftLeft_5 22 rfl rfl)
theorem dX8_shiftLeft_138 : decode cX8_shiftLeft 138 = .ok (.invokevirtual 31, 3) := dk_182 0 31 (dk_at dksX8_shiftLeft_6 0 rfl rfl)
theorem dX8_shiftLeft_141 : decode cX8_shiftLeft 141 = .ok (.return_, 1) := dk_177 (dk_at dksX8_shiftLeft_6 3 rfl rfl)
abbrev cX8_shiftRight : ByteArray := prog_2_method_19_code
def yX8_shiftRight : MethodName := ⟨RX8, "shiftRight", "(I)Z"⟩
def dkwX8_shiftRight_7 : List UInt8 := [21, 4, 172]
abbrev dktX8_shiftRight_7 : List UInt8 := dkwX8_shiftRight_7 ++ []
def dkwX8_shiftRight_6 : List UInt8 := [180, 0, 13, 28, 164, 0, 12, 42, 180, 0, 13, 28, 100, 167, 0, 4, 3, 181, 0, 13, 42, 182, 0, 31]
abbrev dktX8_shiftRight_6 : List UInt8 := dkwX8_shiftRight_6 ++ dktX8_shiftRight_7
def dkwX8_shiftRight_5 : List UInt8 := [55, 6, 42, 180, 0, 9, 21, 5, 22, 6, 29, 125, 136, 79, 132, 5, 1, 167, 255, 177, 42, 42]
abbrev dktX8_shiftRight_5 : List UInt8 := dkwX8_shiftRight_5 ++ dktX8_shiftRight_6
def dkwX8_shiftRight_4 : List UInt8 := [127, 167, 0, 4, 9, 16, 32, 121, 42, 180, 0, 9, 21, 5, 28, 96, 46, 133, 20, 0, 21, 127, 129]
abbrev dktX8_shiftRight_4 : List UInt8 := dkwX8_shiftRight_4 ++ dktX8_shiftRight_5
def dkwX8_shiftRight_3 : List UInt8 := [4, 96, 42, 180, 0, 13, 162, 0, 22, 42, 180, 0, 9, 21, 5, 28, 96, 4, 96, 46, 133, 20, 0, 21]
abbrev dktX8_shiftRight_3 : List UInt8 := dkwX8_shiftRight_3 ++ dktX8_shiftRight_4
def dkwX8_shiftRight_2 : List UInt8 := [132, 5, 1, 167, 255, 222, 3, 54, 5, 21, 5, 28, 96, 42, 180, 0, 13, 162, 0, 74, 21, 5, 28, 96]
abbrev dktX8_shiftRight_2 : List UInt8 := dkwX8_shiftRight_2 ++ dktX8_shiftRight_3
def dkwX8_shiftRight_1 : List UInt8 := [16, 32, 42, 180, 0, 13, 104, 162, 0, 22, 21, 4, 154, 0, 17, 42, 21, 5, 182, 0, 41, 54, 4]
abbrev dktX8_shiftRight_1 : List UInt8 := dkwX8_shiftRight_1 ++ dktX8_shiftRight_2
def dkwX8_shiftRight_0 : List UInt8 := [27, 8, 122, 61, 27, 16, 31, 126, 62, 3, 54, 4, 3, 54, 5, 21, 5, 27, 162, 0, 34, 21, 5]
abbrev dktX8_shiftRight_0 : List UInt8 := dkwX8_shiftRight_0 ++ dktX8_shiftRight_1
theorem dksX8_shiftRight_0 : cX8_shiftRight.data.toList.drop 0 = dktX8_shiftRight_0 := by decide +kernel
theorem dksX8_shiftRight_1 : cX8_shiftRight.data.toList.drop 23 = dktX8_shiftRight_1 := dk_seg dksX8_shiftRight_0 23 rfl rfl
theorem dksX8_shiftRight_2 : cX8_shiftRight.data.toList.drop 46 = dktX8_shiftRight_2 := dk_seg dksX8_shiftRight_1 23 rfl rfl
theorem dksX8_shiftRight_3 : cX8_shiftRight.data.toList.drop 70 = dktX8_shiftRight_3 := dk_seg dksX8_shiftRight_2 24 rfl rfl
theorem dksX8_shiftRight_4 : cX8_shiftRight.data.toList.drop 94 = dktX8_shiftRight_4 := dk_seg dksX8_shiftRight_3 24 rfl rfl
theorem dksX8_shiftRight_5 : cX8_shiftRight.data.toList.drop 117 = dktX8_shiftRight_5 := dk_seg dksX8_shiftRight_4 23 rfl rfl
theorem dksX8_shiftRight_6 : cX8_shiftRight.data.toList.drop 139 = dktX8_shiftRight_6 := dk_seg dksX8_shiftRight_5 22 rfl rfl
theorem dksX8_shiftRight_7 : cX8_shiftRight.data.toList.drop 163 = dktX8_shiftRight_7 := dk_seg dksX8_shiftRight_6 24 rfl rfl
theorem dX8_shiftRight_0 : decode cX8_shiftRight 0 = .ok (.iload_n 1, 1) := dk_27 (dk_at dksX8_shiftRight_0 0 rfl rfl)
theorem dX8_shiftRight_1 : decode cX8_shiftRight 1 = .ok (.iconst 5, 1) := dk_8 (dk_at dksX8_shiftRight_0 1 rfl rfl)
theorem dX8_shiftRight_2 : decode cX8_shiftRight 2 = .ok (.ishr, 1) := dk_122 (dk_at dksX8_shiftRight_0 2 rfl rfl)
theorem dX8_shiftRight_3 : decode cX8_shiftRight 3 = .ok (.istore_n 2, 1) := dk_61 (dk_at dksX8_shiftRight_0 3 rfl rfl)
theorem dX8_shiftRight_4 : decode cX8_shiftRight 4 = .ok (.iload_n 1, 1) := dk_27 (dk_at dksX8_shiftRight_0 4 rfl rfl)
theorem dX8_shiftRight_5 : decode cX8_shiftRight 5 = .ok (.bipush 31, 2) := dk_16 31 (dk_at dksX8_shiftRight_0 5 rfl rfl)
theorem dX8_shiftRight_7 : decode cX8_shiftRight 7 = .ok (.iand, 1) := dk_126 (dk_at dksX8_shiftRight_0 7 rfl rfl)
theorem dX8_shiftRight_8 : decode cX8_shiftRight 8 = .ok (.istore_n 3, 1) := dk_62 (dk_at dksX8_shiftRight_0 8 rfl rfl)
theorem dX8_shiftRight_9 : decode cX8_shiftRight 9 = .ok (.iconst 0, 1) := dk_3 (dk_at dksX8_shiftRight_0 9 rfl rfl)
theorem dX8_shiftRight_10 : decode cX8_shiftRight 10 = .ok (.istore 4, 2) := dk_54 4 (dk_at dksX8_shiftRight_0 10 rfl rfl)
theorem dX8_shiftRight_12 : decode cX8_shiftRight 12 = .ok (.iconst 0, 1) := dk_3 (dk_at dksX8_shiftRight_0 12 rfl rfl)
theorem dX8_shiftRight_13 : decode cX8_shiftRight 13 = .ok (.istore 5, 2) := dk_54 5 (dk_at dksX8_shiftRight_0 13 rfl rfl)
theorem dX8_shiftRight_15 : decode cX8_shiftRight 15 = .ok (.iload 5, 2) := dk_21 5 (dk_at dksX8_shiftRight_0 15 rfl rfl)
theorem dX8_shiftRight_17 : decode cX8_shiftRight 17 = .ok (.iload_n 1, 1) := dk_27 (dk_at dksX8_shiftRight_0 17 rfl rfl)
theorem dX8_shiftRight_18 : decode cX8_shiftRight 18 = .ok (.if_icmp .ge 34, 3) := dk_162 0 34 (dk_at dksX8_shiftRight_0 18 rfl rfl)
theorem dX8_shiftRight_21 : decode cX8_shiftRight 21 = .ok (.iload 5, 2) := dk_21 5 (dk_at dksX8_shiftRight_0 21 rfl rfl)
theorem dX8_shiftRight_23 : decode cX8_shiftRight 23 = .ok (.bipush 32, 2) := dk_16 32 (dk_at dksX8_shiftRight_1 0 rfl rfl)
theorem dX8_shiftRight_25 : decode cX8_shiftRight 25 = .ok (.aload_n 0, 1) := dk_42 (dk_at dksX8_shiftRight_1 2 rfl rfl)
theorem dX8_shiftRight_26 : decode cX8_shiftRight 26 = .ok (.getfield 13, 3) := dk_180 0 13 (dk_at dksX8_shiftRight_1 3 rfl rfl)
theorem dX8_shiftRight_29 : decode cX8_shiftRight 29 = .ok (.imul, 1) := dk_104 (dk_at dksX8_shiftRight_1 6 rfl rfl)
theorem dX8_shiftRight_30 : decode cX8_shiftRight 30 = .ok (.if_icmp .ge 22, 3) := dk_162 0 22 (dk_at dksX8_shiftRight_1 7 rfl rfl)
theorem dX8_shiftRight_33 : decode cX8_shiftRight 33 = .ok (.iload 4, 2) := dk_21 4 (dk_at dksX8_shiftRight_1 10 rfl rfl)
theorem dX8_shiftRight_35 : decode cX8_shiftRight 35 = .ok (.ifCond .ne 17, 3) := dk_154 0 17 (dk_at dksX8_shiftRight_1 12 rfl rfl)
theorem dX8_shiftRight_38 : decode cX8_shiftRight 38 = .ok (.aload_n 0, 1) := dk_42 (dk_at dksX8_shiftRight_1 15 rfl rfl)
theorem dX8_shiftRight_39 : decode cX8_shiftRight 39 = .ok (.iload 5, 2) := dk_21 5 (dk_at dksX8_shiftRight_1 16 rfl rfl)
theorem dX8_shiftRight_41 : decode cX8_shiftRight 41 = .ok (.invokevirtual 41, 3) := dk_182 0 41 (dk_at dksX8_shiftRight_1 18 rfl rfl)
theorem dX8_shiftRight_44 : decode cX8_shiftRight 44 = .ok (.istore 4, 2) := dk_54 4 (dk_at dksX8_shiftRight_1 21 rfl rfl)
theorem dX8_shiftRight_46 : decode cX8_shiftRight 46 = .ok (.iinc 5 1, 3) := dk_132 5 1 (dk_at dksX8_shiftRight_2 0 rfl rfl)
theorem dX8_shiftRight_49 : decode cX8_shiftRight 49 = .ok (.goto (-34), 3) := dk_167 255 222 (dk_at dksX8_shiftRight_2 3 rfl rfl)
theorem dX8_shiftRight_52 : decode cX8_shiftRight 52 = .ok (.iconst 0, 1) := dk_3 (dk_at dksX8_shiftRight_2 6 rfl rfl)
theorem dX8_shiftRight_53 : decode cX8_shiftRight 53 = .ok (.istore 5, 2) := dk_54 5 (dk_at dksX8_shiftRight_2 7 rfl rfl)
theorem dX8_shiftRight_55 : decode cX8_shiftRight 55 = .ok (.iload 5, 2) := dk_21 5 (dk_at dksX8_shiftRight_2 9 rfl rfl)
theorem dX8_shiftRight_57 : decode cX8_shiftRight 57 = .ok (.iload_n 2, 1) := dk_28 (dk_at dksX8_shiftRight_2 11 rfl rfl)
theorem dX8_shiftRight_58 : decode cX8_shiftRight 58 = .ok (.iadd, 1) := dk_96 (dk_at dksX8_shiftRight_2 12 rfl rfl)
theorem dX8_shiftRight_59 : decode cX8_shiftRight 59 = .ok (.aload_n 0, 1) := dk_42 (dk_at dksX8_shiftRight_2 13 rfl rfl)
theorem dX8_shiftRight_60 : decode cX8_shiftRight 60 = .ok (.getfield 13, 3) := dk_180 0 13 (dk_at dksX8_shiftRight_2 14 rfl rfl)
theorem dX8_shiftRight_63 : decode cX8_shiftRight 63 = .ok (.if_icmp .ge 74, 3) := dk_162 0 74 (dk_at dksX8_shiftRight_2 17 rfl rfl)
theorem dX8_shiftRight_66 : decode cX8_shiftRight 66 = .ok (.iload 5, 2) := dk_21 5 (dk_at dksX8_shiftRight_2 20 rfl rfl)
theorem dX8_shiftRight_68 : decode cX8_shiftRight 68 = .ok (.iload_n 2, 1) := dk_28 (dk_at dksX8_shiftRight_2 22 rfl rfl)
theorem dX8_shiftRight_69 : decode cX8_shiftRight 69 = .ok (.iadd, 1) := dk_96 (dk_at dksX8_shiftRight_2 23 rfl rfl)
theorem dX8_shiftRight_70 : decode cX8_shiftRight 70 = .ok (.iconst 1, 1) := dk_4 (dk_at dksX8_shiftRight_3 0 rfl rfl)
theorem dX8_shiftRight_71 : decode cX8_shiftRight 71 = .ok (.iadd, 1) := dk_96 (dk_at dksX8_shiftRight_3 1 rfl rfl)
theorem dX8_shiftRight_72 : decode cX8_shiftRight 72 = .ok (.aload_n 0, 1) := dk_42 (dk_at dksX8_shiftRight_3 2 rfl rfl)
theorem dX8_shiftRight_73 : decode cX8_shiftRight 73 = .ok (.getfield 13, 3) := dk_180 0 13 (dk_at dksX8_shiftRight_3 3 rfl rfl)
theorem dX8_shiftRight_76 : decode cX8_shiftRight 76 = .ok (.if_icmp .ge 22, 3) := dk_162 0 22 (dk_at dksX8_shiftRight_3 6 rfl rfl)
theorem dX8_shiftRight_79 : decode cX8_shiftRight 79 = .ok (.aload_n 0, 1) := dk_42 (dk_at dksX8_shiftRight_3 9 rfl rfl)
theorem dX8_shiftRight_80 : decode cX8_shiftRight 80 = .ok (.getfield 9, 3) := dk_180 0 9 (dk_at dksX8_shiftRight_3 10 rfl rfl)
theorem dX8_shiftRight_83 : decode cX8_shiftRight 83 = .ok (.iload 5, 2) := dk_21 5 (dk_at dksX8_shiftRight_3 13 rfl rfl)
theorem dX8_shiftRight_85 : decode cX8_shiftRight 85 = .ok (.iload_n 2, 1) := dk_28 (dk_at dksX8_shiftRight_3 15 rfl rfl)
theorem dX8_shiftRight_86 : decode cX8_shiftRight 86 = .ok (.iadd, 1) := dk_96 (dk_at dksX8_shiftRight_3 16 rfl rfl)
theorem dX8_shiftRight_87 : decode cX8_shiftRight 87 = .ok (.iconst 1, 1) := dk_4 (dk_at dksX8_shiftRight_3 17 rfl rfl)
theorem dX8_shiftRight_88 : decode cX8_shiftRight 88 = .ok (.iadd, 1) := dk_96 (dk_at dksX8_shiftRight_3 18 rfl rfl)
theorem dX8_shiftRight_89 : decode cX8_shiftRight 89 = .ok (.iaload, 1) := dk_46 (dk_at dksX8_shiftRight_3 19 rfl rfl)
theorem dX8_shiftRight_90 : decode cX8_shiftRight 90 = .ok (.i2l, 1) := dk_133 (dk_at dksX8_shiftRight_3 20 rfl rfl)
theorem dX8_shiftRight_91 : decode cX8_shiftRight 91 = .ok (.ldc2_w 21, 3) := dk_20 0 21 (dk_at dksX8_shiftRight_3 21 rfl rfl)
theorem dX8_shiftRight_94 : decode cX8_shiftRight 94 = .ok (.land, 1) := dk_127 (dk_at dksX8_shiftRight_4 0 rfl rfl)
theorem dX8_shiftRight_95 : decode cX8_shiftRight 95 = .ok (.goto 4, 3) := dk_167 0 4 (dk_at dksX8_shiftRight_4 1 rfl rfl)
theorem dX8_shiftRight_98 : decode cX8_shiftRight 98 = .ok (.lconst 0, 1) := dk_9 (dk_at dksX8_shiftRight_4 4 rfl rfl)
theorem dX8_shiftRight_99 : decode cX8_shiftRight 99 = .ok (.bipush 32, 2) := dk_16 32 (dk_at dksX8_shiftRight_4 5 rfl rfl)
theorem dX8_shiftRight_101 : decode cX8_shiftRight 101 = .ok (.lshl, 1) := dk_121 (dk_at dksX8_shiftRight_4 7 rfl rfl)
theorem dX8_shiftRight_102 : decode cX8_shiftRight 102 = .ok (.aload_n 0, 1) := dk_42 (dk_at dksX8_shiftRight_4 8 rfl rfl)
theorem dX8_shiftRight_103 : decode cX8_shiftRight 103 = .ok (.getfield 9, 3) := dk_180 0 9 (dk_at dksX8_shiftRight_4 9 rfl rfl)
theorem dX8_shiftRight_106 : decode cX8_shiftRight 106 = .ok (.iload 5, 2) := dk_21 5 (dk_at dksX8_shiftRight_4 12 rfl rfl)
theorem dX8_shiftRight_108 : decode cX8_shiftRight 108 = .ok (.iload_n 2, 1) := dk_28 (dk_at dksX8_shiftRight_4 14 rfl rfl)
theorem dX8_shiftRight_109 : decode cX8_shiftRight 109 = .ok (.iadd, 1) := dk_96 (dk_at dksX8_shiftRight_4 15 rfl rfl)
theorem dX8_shiftRight_110 : decode cX8_shiftRight 110 = .ok (.iaload, 1) := dk_46 (dk_at dksX8_shiftRight_4 16 rfl rfl)
theorem dX8_shiftRight_111 : decode cX8_shiftRight 111 = .ok (.i2l, 1) := dk_133 (dk_at dksX8_shiftRight_4 17 rfl rfl)
theorem dX8_shiftRight_112 : decode cX8_shiftRight 112 = .ok (.ldc2_w 21, 3) := dk_20 0 21 (dk_at dksX8_shiftRight_4 18 rfl rfl)
theorem dX8_shiftRight_115 : decode cX8_shiftRight 115 = .ok (.land, 1) := dk_127 (dk_at dksX8_shiftRight_4 21 rfl rfl)
theorem dX8_shiftRight_116 : decode cX8_shiftRight 116 = .ok (.lor, 1) := dk_129 (dk_at dksX8_shiftRight_4 22 rfl rfl)
theorem dX8_shiftRight_117 : decode cX8_shiftRight 117 = .ok (.lstore 6, 2) := dk_55 6 (dk_at dksX8_shiftRight_5 0 rfl rfl)
theorem dX8_shiftRight_119 : decode cX8_shiftRight 119 = .ok (.aload_n 0, 1) := dk_42 (dk_at dksX8_shiftRight_5 2 rfl rfl)
theorem dX8_shiftRight_120 : decode cX8_shiftRight 120 = .ok (.getfield 9, 3) := dk_180 0 9 (dk_at dksX8_shiftRight_5 3 rfl rfl)
theorem dX8_shiftRight_123 : decode cX8_shiftRight 123 = .ok (.iload 5, 2) := dk_21 5 (dk_at dksX8_shiftRight_5 6 rfl rfl)
theorem dX8_shiftRight_125 : decode cX8_shiftRight 125 = .ok (.lload 6, 2) := dk_22 6 (dk_at dksX8_shiftRight_5 8 rfl rfl)
theorem dX8_shiftRight_127 : decode cX8_shiftRight 127 = .ok (.iload_n 3, 1) := dk_29 (dk_at dksX8_shiftRight_5 10 rfl rfl)
theorem dX8_shiftRight_128 : decode cX8_shiftRight 128 = .ok (.lushr, 1) := dk_125 (dk_at dksX8_shiftRight_5 11 rfl rfl)
theorem dX8_shiftRight_129 : decode cX8_shiftRight 129 = .ok (.l2i, 1) := dk_136 (dk_at dksX8_shiftRight_5 12 rfl rfl)
theorem dX8_shiftRight_130 : decode cX8_shiftRight 130 = .ok (.iastore, 1) := dk_79 (dk_at dksX8_shiftRight_5 13 rfl rfl)
theorem dX8_shiftRight_131 : decode cX8_shiftRight 131 = .ok (.iinc 5 1, 3) := dk_132 5 1 (dk_at dksX8_shiftRight_5 14 rfl rfl)
theorem dX8_shiftRight_134 : decode cX8_shiftRight 134 = .ok (.goto (-79), 3) := dk_167 255 177 (dk_at dksX8_shiftRight_5 17 rfl rfl)
theorem dX8_shiftRight_137 : decode cX8_shiftRight 137 = .ok (.aload_n 0, 1) := dk_42 (dk_at dksX8_shiftRight_5 20 rfl rfl)
theorem dX8_shiftRight_138 : decode cX8_shiftRight 138 = .ok (.aload_n 0, 1) := dk_42 (dk_at dksX8_shiftRight_5 21 rfl rfl)
theorem dX8_shiftRight_139 : decode cX8_shiftRight 139 = .ok (.getfield 13, 3) := dk_180 0 13 (dk_at dksX8_shiftRight_6 0 rfl rfl)
theorem dX8_shiftRight_142 : decode cX8_shiftRight 142 = .ok (.iload_n 2, 1) := dk_28 (dk_at dksX8_shiftRight_6 3 rfl rfl)
theorem dX8_shiftRight_143 : decode cX8_shiftRight 143 = .ok (.if_icmp .le 12, 3) := dk_164 0 12 (dk_at dksX8_shiftRight_6 4 rfl rfl)
theorem dX8_shiftRight_146 : decode cX8_shiftRight 146 = .ok (.aload_n 0, 1) := dk_42 (dk_at dksX8_shiftRight_6 7 rfl rfl)
theorem dX8_shiftRight_147 : decode cX8_shiftRight 147 = .ok (.getfield 13, 3) := dk_180 0 13 (dk_at dksX8_shiftRight_6 8 rfl rfl)
theorem dX8_shiftRight_150 : decode cX8_shiftRight 150 = .ok (.iload_n 2, 1) := dk_28 (dk_at dksX8_shiftRight_6 11 rfl rfl)
theorem dX8_shiftRight_151 : decode cX8_shiftRight 151 = .ok (.isub, 1) := dk_100 (dk_at dksX8_shiftRight_6 12 rfl rfl)
theorem dX8_shiftRight_152 : decode cX8_shiftRight 152 = .ok (.goto 4, 3) := dk_167 0 4 (dk_at dksX8_shiftRight_6 13 rfl rfl)
theorem dX8_shiftRight_155 : decode cX8_shiftRight 155 = .ok (.iconst 0, 1) := dk_3 (dk_at dksX8_shiftRight_6 16 rfl rfl)
theorem dX8_shiftRight_156 : decode cX8_shiftRight 156 = .ok (.putfield 13, 3) := dk_181 0 13 (dk_at dksX8_shiftRight_6 17 rfl rfl)
theorem dX8_shiftRight_159 : decode cX8_shiftRight 159 = .ok (.aload_n 0, 1) := dk_42 (dk_at dksX8_shiftRight_6 20 rfl rfl)
theorem dX8_shiftRight_160 : decode cX8_shiftRight 160 = .ok (.invokevirtual 31, 3) := dk_182 0 31 (dk_at dksX8_shiftRight_6 21 rfl rfl)
theorem dX8_shiftRight_163 : decode cX8_shiftRight 163 = .ok (.iload 4, 2) := dk_21 4 (dk_at dksX8_shiftRight_7 0 rfl rfl)
theorem dX8_shiftRight_165 : decode cX8_shiftRight 165 = .ok (.ireturn, 1) := dk_172 (dk_at dksX8_shiftRight_7 2 rfl rfl)
abbrev cX8_bit : ByteArray := prog_2_method_9_code
def yX8_bit : MethodName := ⟨RX8, "bit", "(I)Z"⟩
def dkwX8_bit_1 : List UInt8 := [126, 153, 0, 7, 4, 167, 0, 4, 3, 172]
abbrev dktX8_bit_1 : List UInt8 := dkwX8_bit_1 ++ []
def dkwX8_bit_0 : List UInt8 := [27, 8, 122, 42, 180, 0, 13, 162, 0, 25, 42, 180, 0, 9, 27, 8, 122, 46, 27, 16, 31, 126, 124, 4]
abbrev dktX8_bit_0 : List UInt8 := dkwX8_bit_0 ++ dktX8_bit_1
theorem dksX8_bit_0 : cX8_bit.data.toList.drop 0 = dktX8_bit_0 := by decide +kernel
theorem dksX8_bit_1 : cX8_bit.data.toList.drop 24 = dktX8_bit_1 := dk_seg dksX8_bit_0 24 rfl rfl
theorem dX8_bit_0 : decode cX8_bit 0 = .ok (.iload_n 1, 1) := dk_27 (dk_at dksX8_bit_0 0 rfl rfl)
theorem dX8_bit_1 : decode cX8_bit 1 = .ok (.iconst 5, 1) := dk_8 (dk_at dksX8_bit_0 1 rfl rfl)
theorem dX8_bit_2 : decode cX8_bit 2 = .ok (.ishr, 1) := dk_122 (dk_at dksX8_bit_0 2 rfl rfl)
theorem dX8_bit_3 : decode cX8_bit 3 = .ok (.aload_n 0, 1) := dk_42 (dk_at dksX8_bit_0 3 rfl rfl)
theorem dX8_bit_4 : decode cX8_bit 4 = .ok (.getfield 13, 3) := dk_180 0 13 (dk_at dksX8_bit_0 4 rfl rfl)
theorem dX8_bit_7 : decode cX8_bit 7 = .ok (.if_icmp .ge 25, 3) := dk_162 0 25 (dk_at dksX8_bit_0 7 rfl rfl)
theorem dX8_bit_10 : decode cX8_bit 10 = .ok (.aload_n 0, 1) := dk_42 (dk_at dksX8_bit_0 10 rfl rfl)
theorem dX8_bit_11 : decode cX8_bit 11 = .ok (.getfield 9, 3) := dk_180 0 9 (dk_at dksX8_bit_0 11 rfl rfl)
theorem dX8_bit_14 : decode cX8_bit 14 = .ok (.iload_n 1, 1) := dk_27 (dk_at dksX8_bit_0 14 rfl rfl)
theorem dX8_bit_15 : decode cX8_bit 15 = .ok (.iconst 5, 1) := dk_8 (dk_at dksX8_bit_0 15 rfl rfl)
theorem dX8_bit_16 : decode cX8_bit 16 = .ok (.ishr, 1) := dk_122 (dk_at dksX8_bit_0 16 rfl rfl)
theorem dX8_bit_17 : decode cX8_bit 17 = .ok (.iaload, 1) := dk_46 (dk_at dksX8_bit_0 17 rfl rfl)
theorem dX8_bit_18 : decode cX8_bit 18 = .ok (.iload_n 1, 1) := dk_27 (dk_at dksX8_bit_0 18 rfl rfl)
theorem dX8_bit_19 : decode cX8_bit 19 = .ok (.bipush 31, 2) := dk_16 31 (dk_at dksX8_bit_0 19 rfl rfl)
theorem dX8_bit_21 : decode cX8_bit 21 = .ok (.iand, 1) := dk_126 (dk_at dksX8_bit_0 21 rfl rfl)
theorem dX8_bit_22 : decode cX8_bit 22 = .ok (.iushr, 1) := dk_124 (dk_at dksX8_bit_0 22 rfl rfl)
theorem dX8_bit_23 : decode cX8_bit 23 = .ok (.iconst 1, 1) := dk_4 (dk_at dksX8_bit_0 23 rfl rfl)
theorem dX8_bit_24 : decode cX8_bit 24 = .ok (.iand, 1) := dk_126 (dk_at dksX8_bit_1 0 rfl rfl)
theorem dX8_bit_25 : decode cX8_bit 25 = .ok (.ifCond .eq 7, 3) := dk_153 0 7 (dk_at dksX8_bit_1 1 rfl rfl)
theorem dX8_bit_28 : decode cX8_bit 28 = .ok (.iconst 1, 1) := dk_4 (dk_at dksX8_bit_1 4 rfl rfl)
theorem dX8_bit_29 : decode cX8_bit 29 = .ok (.goto 4, 3) := dk_167 0 4 (dk_at dksX8_bit_1 5 rfl rfl)
theorem dX8_bit_32 : decode cX8_bit 32 = .ok (.iconst 0, 1) := dk_3 (dk_at dksX8_bit_1 8 rfl rfl)
theorem dX8_bit_33 : decode cX8_bit 33 = .ok (.ireturn, 1) := dk_172 (dk_at dksX8_bit_1 9 rfl rfl)
abbrev cX8_logic : ByteArray := prog_2_method_21_code
def yX8_logic : MethodName := ⟨RX8, "logic", "(LLibraryDesk$Big;LLibraryDesk$Big;I)V"⟩
def dkwX8_logic_8 : List UInt8 := [167, 255, 210, 42, 182, 0, 31, 177]
abbrev dktX8_logic_8 : List UInt8 := dkwX8_logic_8 ++ []
def dkwX8_logic_7 : List UInt8 := [55, 5, 42, 180, 0, 9, 21, 7, 22, 5, 136, 79, 22, 5, 16, 32, 125, 55, 5, 132, 7, 1]
abbrev dktX8_logic_7 : List UInt8 := dkwX8_logic_7 ++ dktX8_logic_8
def dkwX8_logic_6 : List UInt8 := [21, 7, 21, 4, 162, 0, 45, 22, 5, 42, 180, 0, 9, 21, 7, 46, 2, 130, 133, 20, 0, 21, 127, 97]
abbrev dktX8_logic_6 : List UInt8 := dkwX8_logic_6 ++ dktX8_logic_7
def dkwX8_logic_5 : List UInt8 := [156, 0, 7, 4, 167, 0, 4, 3, 181, 0, 17, 42, 180, 0, 17, 153, 0, 58, 10, 55, 5, 3, 54, 7]
abbrev dktX8_logic_5 : List UInt8 := dkwX8_logic_5 ++ dktX8_logic_6
def dkwX8_logic_4 : List UInt8 := [132, 5, 1, 167, 255, 190, 42, 21, 4, 181, 0, 13, 42, 42, 180, 0, 9, 21, 4, 4, 100, 46]
abbrev dktX8_logic_4 : List UInt8 := dkwX8_logic_4 ++ dktX8_logic_5
def dkwX8_logic_3 : List UInt8 := [167, 0, 22, 29, 16, 11, 160, 0, 11, 21, 6, 21, 7, 128, 167, 0, 8, 21, 6, 21, 7, 130, 79]
abbrev dktX8_logic_3 : List UInt8 := dkwX8_logic_3 ++ dktX8_logic_4
def dkwX8_logic_2 : List UInt8 := [184, 0, 45, 54, 7, 42, 180, 0, 9, 21, 5, 29, 16, 10, 160, 0, 11, 21, 6, 21, 7, 126]
abbrev dktX8_logic_2 : List UInt8 := dkwX8_logic_2 ++ dktX8_logic_3
def dkwX8_logic_1 : List UInt8 := [54, 4, 3, 54, 5, 21, 5, 21, 4, 162, 0, 65, 43, 21, 5, 184, 0, 45, 54, 6, 44, 21, 5]
abbrev dktX8_logic_1 : List UInt8 := dkwX8_logic_1 ++ dktX8_logic_2
def dkwX8_logic_0 : List UInt8 := [43, 180, 0, 13, 44, 180, 0, 13, 164, 0, 10, 43, 180, 0, 13, 167, 0, 7, 44, 180, 0, 13, 4, 96]
abbrev dktX8_logic_0 : List UInt8 := dkwX8_logic_0 ++ dktX8_logic_1
theorem dksX8_logic_0 : cX8_logic.data.toList.drop 0 = dktX8_logic_0 := by decide +kernel
theorem dksX8_logic_1 : cX8_logic.data.toList.drop 24 = dktX8_logic_1 := dk_seg dksX8_logic_0 24 rfl rfl
theorem dksX8_logic_2 : cX8_logic.data.toList.drop 47 = dktX8_logic_2 := dk_seg dksX8_logic_1 23 rfl rfl
theorem dksX8_logic_3 : cX8_logic.data.toList.drop 69 = dktX8_logic_3 := dk_seg dksX8_logic_2 22 rfl rfl
theorem dksX8_logic_4 : cX8_logic.data.toList.drop 92 = dktX8_logic_4 := dk_seg dksX8_logic_3 23 rfl rfl
theorem dksX8_logic_5 : cX8_logic.data.toList.drop 114 = dktX8_logic_5 := dk_seg dksX8_logic_4 22 rfl rfl
theorem dksX8_logic_6 : cX8_logic.data.toList.drop 138 = dktX8_logic_6 := dk_seg dksX8_logic_5 24 rfl rfl
theorem dksX8_logic_7 : cX8_logic.data.toList.drop 162 = dktX8_logic_7 := dk_seg dksX8_logic_6 24 rfl rfl
theorem dksX8_logic_8 : cX8_logic.data.toList.drop 184 = dktX8_logic_8 := dk_seg dksX8_logic_7 22 rfl rfl
theorem dX8_logic_0 : decode cX8_logic 0 = .ok (.aload_n 1, 1) := dk_43 (dk_at dksX8_logic_0 0 rfl rfl)
theorem dX8_logic_1 : decode cX8_logic 1 = .ok (.getfield 13, 3) := dk_180 0 13 (dk_at dksX8_logic_0 1 rfl rfl)
theorem dX8_logic_4 : decode cX8_logic 4 = .ok (.aload_n 2, 1) := dk_44 (dk_at dksX8_logic_0 4 rfl rfl)
theorem dX8_logic_5 : decode cX8_logic 5 = .ok (.getfield 13, 3) := dk_180 0 13 (dk_at dksX8_logic_0 5 rfl rfl)
theorem dX8_logic_8 : decode cX8_logic 8 = .ok (.if_icmp .le 10, 3) := dk_164 0 10 (dk_at dksX8_logic_0 8 rfl rfl)
theorem dX8_logic_11 : decode cX8_logic 11 = .ok (.aload_n 1, 1) := dk_43 (dk_at dksX8_logic_0 11 rfl rfl)
theorem dX8_logic_12 : decode cX8_logic 12 = .ok (.getfield 13, 3) := dk_180 0 13 (dk_at dksX8_logic_0 12 rfl rfl)
theorem dX8_logic_15 : decode cX8_logic 15 = .ok (.goto 7, 3) := dk_167 0 7 (dk_at dksX8_logic_0 15 rfl rfl)
theorem dX8_logic_18 : decode cX8_logic 18 = .ok (.aload_n 2, 1) := dk_44 (dk_at dksX8_logic_0 18 rfl rfl)
theorem dX8_logic_19 : decode cX8_logic 19 = .ok (.getfield 13, 3) := dk_180 0 13 (dk_at dksX8_logic_0 19 rfl rfl)
theorem dX8_logic_22 : decode cX8_logic 22 = .ok (.iconst 1, 1) := dk_4 (dk_at dksX8_logic_0 22 rfl rfl)
theorem dX8_logic_23 : decode cX8_logic 23 = .ok (.iadd, 1) := dk_96 (dk_at dksX8_logic_0 23 rfl rfl)
theorem dX8_logic_24 : decode cX8_logic 24 = .ok (.istore 4, 2) := dk_54 4 (dk_at dksX8_logic_1 0 rfl rfl)
theorem dX8_logic_26 : decode cX8_logic 26 = .ok (.iconst 0, 1) := dk_3 (dk_at dksX8_logic_1 2 rfl rfl)
theorem dX8_logic_27 : decode cX8_logic 27 = .ok (.istore 5, 2) := dk_54 5 (dk_at dksX8_logic_1 3 rfl rfl)
theorem dX8_logic_29 : decode cX8_logic 29 = .ok (.iload 5, 2) := dk_21 5 (dk_at dksX8_logic_1 5 rfl rfl)
theorem dX8_logic_31 : decode cX8_logic 31 = .ok (.iload 4, 2) := dk_21 4 (dk_at dksX8_logic_1 7 rfl rfl)
theorem dX8_logic_33 : decode cX8_logic 33 = .ok (.if_icmp .ge 65, 3) := dk_162 0 65 (dk_at dksX8_logic_1 9 rfl rfl)
theorem dX8_logic_36 : decode cX8_logic 36 = .ok (.aload_n 1, 1) := dk_43 (dk_at dksX8_logic_1 12 rfl rfl)
theorem dX8_logic_37 : decode cX8_logic 37 = .ok (.iload 5, 2) := dk_21 5 (dk_at dksX8_logic_1 13 rfl rfl)
theorem dX8_logic_39 : decode cX8_logic 39 = .ok (.invokestatic 45, 3) := dk_184 0 45 (dk_at dksX8_logic_1 15 rfl rfl)
theorem dX8_logic_42 : decode cX8_logic 42 = .ok (.istore 6, 2) := dk_54 6 (dk_at dksX8_logic_1 18 rfl rfl)
theorem dX8_logic_44 : decode cX8_logic 44 = .ok (.aload_n 2, 1) := dk_44 (dk_at dksX8_logic_1 20 rfl rfl)
theorem dX8_logic_45 : decode cX8_logic 45 = .ok (.iload 5, 2) := dk_21 5 (dk_at dksX8_logic_1 21 rfl rfl)
theorem dX8_logic_47 : decode cX8_logic 47 = .ok (.invokestatic 45, 3) := dk_184 0 45 (dk_at dksX8_logic_2 0 rfl rfl)
theorem dX8_logic_50 : decode cX8_logic 50 = .ok (.istore 7, 2) := dk_54 7 (dk_at dksX8_logic_2 3 rfl rfl)
theorem dX8_logic_52 : decode cX8_logic 52 = .ok (.aload_n 0, 1) := dk_42 (dk_at dksX8_logic_2 5 rfl rfl)
theorem dX8_logic_53 : decode cX8_logic 53 = .ok (.getfield 9, 3) := dk_180 0 9 (dk_at dksX8_logic_2 6 rfl rfl)
theorem dX8_logic_56 : decode cX8_logic 56 = .ok (.iload 5, 2) := dk_21 5 (dk_at dksX8_logic_2 9 rfl rfl)
theorem dX8_logic_58 : decode cX8_logic 58 = .ok (.iload_n 3, 1) := dk_29 (dk_at dksX8_logic_2 11 rfl rfl)
theorem dX8_logic_59 : decode cX8_logic 59 = .ok (.bipush 10, 2) := dk_16 10 (dk_at dksX8_logic_2 12 rfl rfl)
theorem dX8_logic_61 : decode cX8_logic 61 = .ok (.if_icmp .ne 11, 3) := dk_160 0 11 (dk_at dksX8_logic_2 14 rfl rfl)
theorem dX8_logic_64 : decode cX8_logic 64 = .ok (.iload 6, 2) := dk_21 6 (dk_at dksX8_logic_2 17 rfl rfl)
theorem dX8_logic_66 : decode cX8_logic 66 = .ok (.iload 7, 2) := dk_21 7 (dk_at dksX8_logic_2 19 rfl rfl)
theorem dX8_logic_68 : decode cX8_logic 68 = .ok (.iand, 1) := dk_126 (dk_at dksX8_logic_2 21 rfl rfl)
theorem dX8_logic_69 : decode cX8_logic 69 = .ok (.goto 22, 3) := dk_167 0 22 (dk_at dksX8_logic_3 0 rfl rfl)
theorem dX8_logic_72 : decode cX8_logic 72 = .ok (.iload_n 3, 1) := dk_29 (dk_at dksX8_logic_3 3 rfl rfl)
theorem dX8_logic_73 : decode cX8_logic 73 = .ok (.bipush 11, 2) := dk_16 11 (dk_at dksX8_logic_3 4 rfl rfl)
theorem dX8_logic_75 : decode cX8_logic 75 = .ok (.if_icmp .ne 11, 3) := dk_160 0 11 (dk_at dksX8_logic_3 6 rfl rfl)
theorem dX8_logic_78 : decode cX8_logic 78 = .ok (.iload 6, 2) := dk_21 6 (dk_at dksX8_logic_3 9 rfl rfl)
theorem dX8_logic_80 : decode cX8_logic 80 = .ok (.iload 7, 2) := dk_21 7 (dk_at dksX8_logic_3 11 rfl rfl)
theorem dX8_logic_82 : decode cX8_logic 82 = .ok (.ior, 1) := dk_128 (dk_at dksX8_logic_3 13 rfl rfl)
theorem dX8_logic_83 : decode cX8_logic 83 = .ok (.goto 8, 3) := dk_167 0 8 (dk_at dksX8_logic_3 14 rfl rfl)
theorem dX8_logic_86 : decode cX8_logic 86 = .ok (.iload 6, 2) := dk_21 6 (dk_at dksX8_logic_3 17 rfl rfl)
theorem dX8_logic_88 : decode cX8_logic 88 = .ok (.iload 7, 2) := dk_21 7 (dk_at dksX8_logic_3 19 rfl rfl)
theorem dX8_logic_90 : decode cX8_logic 90 = .ok (.ixor, 1) := dk_130 (dk_at dksX8_logic_3 21 rfl rfl)
theorem dX8_logic_91 : decode cX8_logic 91 = .ok (.iastore, 1) := dk_79 (dk_at dksX8_logic_3 22 rfl rfl)
theorem dX8_logic_92 : decode cX8_logic 92 = .ok (.iinc 5 1, 3) := dk_132 5 1 (dk_at dksX8_logic_4 0 rfl rfl)
theorem dX8_logic_95 : decode cX8_logic 95 = .ok (.goto (-66), 3) := dk_167 255 190 (dk_at dksX8_logic_4 3 rfl rfl)
theorem dX8_logic_98 : decode cX8_logic 98 = .ok (.aload_n 0, 1) := dk_42 (dk_at dksX8_logic_4 6 rfl rfl)
theorem dX8_logic_99 : decode cX8_logic 99 = .ok (.iload 4, 2) := dk_21 4 (dk_at dksX8_logic_4 7 rfl rfl)
theorem dX8_logic_101 : decode cX8_logic 101 = .ok (.putfield 13, 3) := dk_181 0 13 (dk_at dksX8_logic_4 9 rfl rfl)
theorem dX8_logic_104 : decode cX8_logic 104 = .ok (.aload_n 0, 1) := dk_42 (dk_at dksX8_logic_4 12 rfl rfl)
theorem dX8_logic_105 : decode cX8_logic 105 = .ok (.aload_n 0, 1) := dk_42 (dk_at dksX8_logic_4 13 rfl rfl)
theorem dX8_logic_106 : decode cX8_logic 106 = .ok (.getfield 9, 3) := dk_180 0 9 (dk_at dksX8_logic_4 14 rfl rfl)
theorem dX8_logic_109 : decode cX8_logic 109 = .ok (.iload 4, 2) := dk_21 4 (dk_at dksX8_logic_4 17 rfl rfl)
theorem dX8_logic_111 : decode cX8_logic 111 = .ok (.iconst 1, 1) := dk_4 (dk_at dksX8_logic_4 19 rfl rfl)
theorem dX8_logic_112 : decode cX8_logic 112 = .ok (.isub, 1) := dk_100 (dk_at dksX8_logic_4 20 rfl rfl)
theorem dX8_logic_113 : decode cX8_logic 113 = .ok (.iaload, 1) := dk_46 (dk_at dksX8_logic_4 21 rfl rfl)
theorem dX8_logic_114 : decode cX8_logic 114 = .ok (.ifCond .ge 7, 3) := dk_156 0 7 (dk_at dksX8_logic_5 0 rfl rfl)
theorem dX8_logic_117 : decode cX8_logic 117 = .ok (.iconst 1, 1) := dk_4 (dk_at dksX8_logic_5 3 rfl rfl)
theorem dX8_logic_118 : decode cX8_logic 118 = .ok (.goto 4, 3) := dk_167 0 4 (dk_at dksX8_logic_5 4 rfl rfl)
theorem dX8_logic_121 : decode cX8_logic 121 = .ok (.iconst 0, 1) := dk_3 (dk_at dksX8_logic_5 7 rfl rfl)
theorem dX8_logic_122 : decode cX8_logic 122 = .ok (.putfield 17, 3) := dk_181 0 17 (dk_at dksX8_logic_5 8 rfl rfl)
theorem dX8_logic_125 : decode cX8_logic 125 = .ok (.aload_n 0, 1) := dk_42 (dk_at dksX8_logic_5 11 rfl rfl)
theorem dX8_logic_126 : decode cX8_logic 126 = .ok (.getfield 17, 3) := dk_180 0 17 (dk_at dksX8_logic_5 12 rfl rfl)
theorem dX8_logic_129 : decode cX8_logic 129 = .ok (.ifCond .eq 58, 3) := dk_153 0 58 (dk_at dksX8_logic_5 15 rfl rfl)
theorem dX8_logic_132 : decode cX8_logic 132 = .ok (.lconst 1, 1) := dk_10 (dk_at dksX8_logic_5 18 rfl rfl)
theorem dX8_logic_133 : decode cX8_logic 133 = .ok (.lstore 5, 2) := dk_55 5 (dk_at dksX8_logic_5 19 rfl rfl)
theorem dX8_logic_135 : decode cX8_logic 135 = .ok (.iconst 0, 1) := dk_3 (dk_at dksX8_logic_5 21 rfl rfl)
theorem dX8_logic_136 : decode cX8_logic 136 = .ok (.istore 7, 2) := dk_54 7 (dk_at dksX8_logic_5 22 rfl rfl)
theorem dX8_logic_138 : decode cX8_logic 138 = .ok (.iload 7, 2) := dk_21 7 (dk_at dksX8_logic_6 0 rfl rfl)
theorem dX8_logic_140 : decode cX8_logic 140 = .ok (.iload 4, 2) := dk_21 4 (dk_at dksX8_logic_6 2 rfl rfl)
theorem dX8_logic_142 : decode cX8_logic 142 = .ok (.if_icmp .ge 45, 3) := dk_162 0 45 (dk_at dksX8_logic_6 4 rfl rfl)
theorem dX8_logic_145 : decode cX8_logic 145 = .ok (.lload 5, 2) := dk_22 5 (dk_at dksX8_logic_6 7 rfl rfl)
theorem dX8_logic_147 : decode cX8_logic 147 = .ok (.aload_n 0, 1) := dk_42 (dk_at dksX8_logic_6 9 rfl rfl)
theorem dX8_logic_148 : decode cX8_logic 148 = .ok (.getfield 9, 3) := dk_180 0 9 (dk_at dksX8_logic_6 10 rfl rfl)
theorem dX8_logic_151 : decode cX8_logic 151 = .ok (.iload 7, 2) := dk_21 7 (dk_at dksX8_logic_6 13 rfl rfl)
theorem dX8_logic_153 : decode cX8_logic 153 = .ok (.iaload, 1) := dk_46 (dk_at dksX8_logic_6 15 rfl rfl)
theorem dX8_logic_154 : decode cX8_logic 154 = .ok (.iconst (-1), 1) := dk_2 (dk_at dksX8_logic_6 16 rfl rfl)
theorem dX8_logic_155 : decode cX8_logic 155 = .ok (.ixor, 1) := dk_130 (dk_at dksX8_logic_6 17 rfl rfl)
theorem dX8_logic_156 : decode cX8_logic 156 = .ok (.i2l, 1) := dk_133 (dk_at dksX8_logic_6 18 rfl rfl)
theorem dX8_logic_157 : decode cX8_logic 157 = .ok (.ldc2_w 21, 3) := dk_20 0 21 (dk_at dksX8_logic_6 19 rfl rfl)
theorem dX8_logic_160 : decode cX8_logic 160 = .ok (.land, 1) := dk_127 (dk_at dksX8_logic_6 22 rfl rfl)
theorem dX8_logic_161 : decode cX8_logic 161 = .ok (.ladd, 1) := dk_97 (dk_at dksX8_logic_6 23 rfl rfl)
theorem dX8_logic_162 : decode cX8_logic 162 = .ok (.lstore 5, 2) := dk_55 5 (dk_at dksX8_logic_7 0 rfl rfl)
theorem dX8_logic_164 : decode cX8_logic 164 = .ok (.aload_n 0, 1) := dk_42 (dk_at dksX8_logic_7 2 rfl rfl)
theorem dX8_logic_165 : decode cX8_logic 165 = .ok (.getfield 9, 3) := dk_180 0 9 (dk_at dksX8_logic_7 3 rfl rfl)
theorem dX8_logic_168 : decode cX8_logic 168 = .ok (.iload 7, 2) := dk_21 7 (dk_at dksX8_logic_7 6 rfl rfl)
theorem dX8_logic_170 : decode cX8_logic 170 = .ok (.lload 5, 2) := dk_22 5 (dk_at dksX8_logic_7 8 rfl rfl)
theorem dX8_logic_172 : decode cX8_logic 172 = .ok (.l2i, 1) := dk_136 (dk_at dksX8_logic_7 10 rfl rfl)
theorem dX8_logic_173 : decode cX8_logic 173 = .ok (.iastore, 1) := dk_79 (dk_at dksX8_logic_7 11 rfl rfl)
theorem dX8_logic_174 : decode cX8_logic 174 = .ok (.lload 5, 2) := dk_22 5 (dk_at dksX8_logic_7 12 rfl rfl)
theorem dX8_logic_176 : decode cX8_logic 176 = .ok (.bipush 32, 2) := dk_16 32 (dk_at dksX8_logic_7 14 rfl rfl)
theorem dX8_logic_178 : decode cX8_logic 178 = .ok (.lushr, 1) := dk_125 (dk_at dksX8_logic_7 16 rfl rfl)
theorem dX8_logic_179 : decode cX8_logic 179 = .ok (.lstore 5, 2) := dk_55 5 (dk_at dksX8_logic_7 17 rfl rfl)
theorem dX8_logic_181 : decode cX8_logic 181 = .ok (.iinc 7 1, 3) := dk_132 7 1 (dk_at dksX8_logic_7 19 rfl rfl)
theorem dX8_logic_184 : decode cX8_logic 184 = .ok (.goto (-46), 3) := dk_167 255 210 (dk_at dksX8_logic_8 0 rfl rfl)
theorem dX8_logic_187 : decode cX8_logic 187 = .ok (.aload_n 0, 1) := dk_42 (dk_at dksX8_logic_8 3 rfl rfl)
theorem dX8_logic_188 : decode cX8_logic 188 = .ok (.invokevirtual 31, 3) := dk_182 0 31 (dk_at dksX8_logic_8 4 rfl rfl)
theorem dX8_logic_191 : decode cX8_logic 191 = .ok (.return_, 1) := dk_177 (dk_at dksX8_logic_8 7 rfl rfl)
abbrev cX8_endless : ByteArray := prog_2_method_20_code
def yX8_endless : MethodName := ⟨RX8, "endless", "(LLibraryDesk$Big;I)I"⟩
def dkwX8_endless_3 : List UInt8 := [28, 160, 0, 8, 29, 116, 167, 0, 6, 29, 2, 130, 172]
abbrev dktX8_endless_3 : List UInt8 := dkwX8_endless_3 ++ []
def dkwX8_endless_2 : List UInt8 := [162, 0, 12, 42, 180, 0, 9, 27, 46, 167, 0, 4, 3, 62, 27, 28, 162, 0, 7, 3, 167, 0, 16, 27]
abbrev dktX8_endless_2 : List UInt8 := dkwX8_endless_2 ++ dktX8_endless_3
def dkwX8_endless_1 : List UInt8 := [3, 172, 3, 61, 42, 180, 0, 9, 28, 46, 154, 0, 9, 132, 2, 1, 167, 255, 244, 27, 42, 180, 0, 13]
abbrev dktX8_endless_1 : List UInt8 := dkwX8_endless_1 ++ dktX8_endless_2
def dkwX8_endless_0 : List UInt8 := [42, 180, 0, 17, 154, 0, 22, 27, 42, 180, 0, 13, 162, 0, 12, 42, 180, 0, 9, 27, 46, 167, 0, 4]
abbrev dktX8_endless_0 : List UInt8 := dkwX8_endless_0 ++ dktX8_endless_1
theorem dksX8_endless_0 : cX8_endless.data.toList.drop 0 = dktX8_endless_0 := by decide +kernel
theorem dksX8_endless_1 : cX8_endless.data.toList.drop 24 = dktX8_endless_1 := dk_seg dksX8_endless_0 24 rfl rfl
theorem dksX8_endless_2 : cX8_endless.data.toList.drop 48 = dktX8_endless_2 := dk_seg dksX8_endless_1 24 rfl rfl
theorem dksX8_endless_3 : cX8_endless.data.toList.drop 72 = dktX8_endless_3 := dk_seg dksX8_endless_2 24 rfl rfl
theorem dX8_endless_0 : decode cX8_endless 0 = .ok (.aload_n 0, 1) := dk_42 (dk_at dksX8_endless_0 0 rfl rfl)
theorem dX8_endless_1 : decode cX8_endless 1 = .ok (.getfield 17, 3) := dk_180 0 17 (dk_at dksX8_endless_0 1 rfl rfl)
theorem dX8_endless_4 : decode cX8_endless 4 = .ok (.ifCond .ne 22, 3) := dk_154 0 22 (dk_at dksX8_endless_0 4 rfl rfl)
theorem dX8_endless_7 : decode cX8_endless 7 = .ok (.iload_n 1, 1) := dk_27 (dk_at dksX8_endless_0 7 rfl rfl)
theorem dX8_endless_8 : decode cX8_endless 8 = .ok (.aload_n 0, 1) := dk_42 (dk_at dksX8_endless_0 8 rfl rfl)
theorem dX8_endless_9 : decode cX8_endless 9 = .ok (.getfield 13, 3) := dk_180 0 13 (dk_at dksX8_endless_0 9 rfl rfl)
theorem dX8_endless_12 : decode cX8_endless 12 = .ok (.if_icmp .ge 12, 3) := dk_162 0 12 (dk_at dksX8_endless_0 12 rfl rfl)
theorem dX8_endless_15 : decode cX8_endless 15 = .ok (.aload_n 0, 1) := dk_42 (dk_at dksX8_endless_0 15 rfl rfl)
theorem dX8_endless_16 : decode cX8_endless 16 = .ok (.getfield 9, 3) := dk_180 0 9 (dk_at dksX8_endless_0 16 rfl rfl)
theorem dX8_endless_19 : decode cX8_endless 19 = .ok (.iload_n 1, 1) := dk_27 (dk_at dksX8_endless_0 19 rfl rfl)
theorem dX8_endless_20 : decode cX8_endless 20 = .ok (.iaload, 1) := dk_46 (dk_at dksX8_endless_0 20 rfl rfl)
theorem dX8_endless_21 : decode cX8_endless 21 = .ok (.goto 4, 3) := dk_167 0 4 (dk_at dksX8_endless_0 21 rfl rfl)
theorem dX8_endless_24 : decode cX8_endless 24 = .ok (.iconst 0, 1) := dk_3 (dk_at dksX8_endless_1 0 rfl rfl)
theorem dX8_endless_25 : decode cX8_endless 25 = .ok (.ireturn, 1) := dk_172 (dk_at dksX8_endless_1 1 rfl rfl)
theorem dX8_endless_26 : decode cX8_endless 26 = .ok (.iconst 0, 1) := dk_3 (dk_at dksX8_endless_1 2 rfl rfl)
theorem dX8_endless_27 : decode cX8_endless 27 = .ok (.istore_n 2, 1) := dk_61 (dk_at dksX8_endless_1 3 rfl rfl)
theorem dX8_endless_28 : decode cX8_endless 28 = .ok (.aload_n 0, 1) := dk_42 (dk_at dksX8_endless_1 4 rfl rfl)
theorem dX8_endless_29 : decode cX8_endless 29 = .ok (.getfield 9, 3) := dk_180 0 9 (dk_at dksX8_endless_1 5 rfl rfl)
theorem dX8_endless_32 : decode cX8_endless 32 = .ok (.iload_n 2, 1) := dk_28 (dk_at dksX8_endless_1 8 rfl rfl)
theorem dX8_endless_33 : decode cX8_endless 33 = .ok (.iaload, 1) := dk_46 (dk_at dksX8_endless_1 9 rfl rfl)
theorem dX8_endless_34 : decode cX8_endless 34 = .ok (.ifCond .ne 9, 3) := dk_154 0 9 (dk_at dksX8_endless_1 10 rfl rfl)
theorem dX8_endless_37 : decode cX8_endless 37 = .ok (.iinc 2 1, 3) := dk_132 2 1 (dk_at dksX8_endless_1 13 rfl rfl)
theorem dX8_endless_40 : decode cX8_endless 40 = .ok (.goto (-12), 3) := dk_167 255 244 (dk_at dksX8_endless_1 16 rfl rfl)
theorem dX8_endless_43 : decode cX8_endless 43 = .ok (.iload_n 1, 1) := dk_27 (dk_at dksX8_endless_1 19 rfl rfl)
theorem dX8_endless_44 : decode cX8_endless 44 = .ok (.aload_n 0, 1) := dk_42 (dk_at dksX8_endless_1 20 rfl rfl)
theorem dX8_endless_45 : decode cX8_endless 45 = .ok (.getfield 13, 3) := dk_180 0 13 (dk_at dksX8_endless_1 21 rfl rfl)
theorem dX8_endless_48 : decode cX8_endless 48 = .ok (.if_icmp .ge 12, 3) := dk_162 0 12 (dk_at dksX8_endless_2 0 rfl rfl)
theorem dX8_endless_51 : decode cX8_endless 51 = .ok (.aload_n 0, 1) := dk_42 (dk_at dksX8_endless_2 3 rfl rfl)
theorem dX8_endless_52 : decode cX8_endless 52 = .ok (.getfield 9, 3) := dk_180 0 9 (dk_at dksX8_endless_2 4 rfl rfl)
theorem dX8_endless_55 : decode cX8_endless 55 = .ok (.iload_n 1, 1) := dk_27 (dk_at dksX8_endless_2 7 rfl rfl)
theorem dX8_endless_56 : decode cX8_endless 56 = .ok (.iaload, 1) := dk_46 (dk_at dksX8_endless_2 8 rfl rfl)
theorem dX8_endless_57 : decode cX8_endless 57 = .ok (.goto 4, 3) := dk_167 0 4 (dk_at dksX8_endless_2 9 rfl rfl)
theorem dX8_endless_60 : decode cX8_endless 60 = .ok (.iconst 0, 1) := dk_3 (dk_at dksX8_endless_2 12 rfl rfl)
theorem dX8_endless_61 : decode cX8_endless 61 = .ok (.istore_n 3, 1) := dk_62 (dk_at dksX8_endless_2 13 rfl rfl)
theorem dX8_endless_62 : decode cX8_endless 62 = .ok (.iload_n 1, 1) := dk_27 (dk_at dksX8_endless_2 14 rfl rfl)
theorem dX8_endless_63 : decode cX8_endless 63 = .ok (.iload_n 2, 1) := dk_28 (dk_at dksX8_endless_2 15 rfl rfl)
theorem dX8_endless_64 : decode cX8_endless 64 = .ok (.if_icmp .ge 7, 3) := dk_162 0 7 (dk_at dksX8_endless_2 16 rfl rfl)
theorem dX8_endless_67 : decode cX8_endless 67 = .ok (.iconst 0, 1) := dk_3 (dk_at dksX8_endless_2 19 rfl rfl)
theorem dX8_endless_68 : decode cX8_endless 68 = .ok (.goto 16, 3) := dk_167 0 16 (dk_at dksX8_endless_2 20 rfl rfl)
theorem dX8_endless_71 : decode cX8_endless 71 = .ok (.iload_n 1, 1) := dk_27 (dk_at dksX8_endless_2 23 rfl rfl)
theorem dX8_endless_72 : decode cX8_endless 72 = .ok (.iload_n 2, 1) := dk_28 (dk_at dksX8_endless_3 0 rfl rfl)
theorem dX8_endless_73 : decode cX8_endless 73 = .ok (.if_icmp .ne 8, 3) := dk_160 0 8 (dk_at dksX8_endless_3 1 rfl rfl)
theorem dX8_endless_76 : decode cX8_endless 76 = .ok (.iload_n 3, 1) := dk_29 (dk_at dksX8_endless_3 4 rfl rfl)
theorem dX8_endless_77 : decode cX8_endless 77 = .ok (.ineg, 1) := dk_116 (dk_at dksX8_endless_3 5 rfl rfl)
theorem dX8_endless_78 : decode cX8_endless 78 = .ok (.goto 6, 3) := dk_167 0 6 (dk_at dksX8_endless_3 6 rfl rfl)
theorem dX8_endless_81 : decode cX8_endless 81 = .ok (.iload_n 3, 1) := dk_29 (dk_at dksX8_endless_3 9 rfl rfl)
theorem dX8_endless_82 : decode cX8_endless 82 = .ok (.iconst (-1), 1) := dk_2 (dk_at dksX8_endless_3 10 rfl rfl)
theorem dX8_endless_83 : decode cX8_endless 83 = .ok (.ixor, 1) := dk_130 (dk_at dksX8_endless_3 11 rfl rfl)
theorem dX8_endless_84 : decode cX8_endless 84 = .ok (.ireturn, 1) := dk_172 (dk_at dksX8_endless_3 12 rfl rfl)
abbrev cX8_times : ByteArray := prog_2_method_16_code
def yX8_times : MethodName := ⟨RX8, "times", "(II)V"⟩
def dkwX8_times_3 : List UInt8 := [89, 180, 0, 13, 4, 96, 181, 0, 13, 177]
abbrev dktX8_times_3 : List UInt8 := dkwX8_times_3 ++ []
def dkwX8_times_2 : List UInt8 := [132, 5, 1, 167, 255, 212, 33, 9, 148, 153, 0, 24, 42, 180, 0, 9, 42, 180, 0, 13, 33, 136, 79, 42]
abbrev dktX8_times_2 : List UInt8 := dkwX8_times_2 ++ dktX8_times_3
def dkwX8_times_1 : List UInt8 := [20, 0, 21, 127, 27, 133, 105, 97, 66, 42, 180, 0, 9, 21, 5, 33, 136, 79, 33, 16, 32, 125, 66]
abbrev dktX8_times_1 : List UInt8 := dkwX8_times_1 ++ dktX8_times_2
def dkwX8_times_0 : List UInt8 := [28, 133, 66, 3, 54, 5, 21, 5, 42, 180, 0, 13, 162, 0, 41, 33, 42, 180, 0, 9, 21, 5, 46, 133]
abbrev dktX8_times_0 : List UInt8 := dkwX8_times_0 ++ dktX8_times_1
theorem dksX8_times_0 : cX8_times.data.toList.drop 0 = dktX8_times_0 := by decide +kernel
theorem dksX8_times_1 : cX8_times.data.toList.drop 24 = dktX8_times_1 := dk_seg dksX8_times_0 24 rfl rfl
theorem dksX8_times_2 : cX8_times.data.toList.drop 47 = dktX8_times_2 := dk_seg dksX8_times_1 23 rfl rfl
theorem dksX8_times_3 : cX8_times.data.toList.drop 71 = dktX8_times_3 := dk_seg dksX8_times_2 24 rfl rfl
theorem dX8_times_0 : decode cX8_times 0 = .ok (.iload_n 2, 1) := dk_28 (dk_at dksX8_times_0 0 rfl rfl)
theorem dX8_times_1 : decode cX8_times 1 = .ok (.i2l, 1) := dk_133 (dk_at dksX8_times_0 1 rfl rfl)
theorem dX8_times_2 : decode cX8_times 2 = .ok (.lstore_n 3, 1) := dk_66 (dk_at dksX8_times_0 2 rfl rfl)
theorem dX8_times_3 : decode cX8_times 3 = .ok (.iconst 0, 1) := dk_3 (dk_at dksX8_times_0 3 rfl rfl)
theorem dX8_times_4 : decode cX8_times 4 = .ok (.istore 5, 2) := dk_54 5 (dk_at dksX8_times_0 4 rfl rfl)
theorem dX8_times_6 : decode cX8_times 6 = .ok (.iload 5, 2) := dk_21 5 (dk_at dksX8_times_0 6 rfl rfl)
theorem dX8_times_8 : decode cX8_times 8 = .ok (.aload_n 0, 1) := dk_42 (dk_at dksX8_times_0 8 rfl rfl)
theorem dX8_times_9 : decode cX8_times 9 = .ok (.getfield 13, 3) := dk_180 0 13 (dk_at dksX8_times_0 9 rfl rfl)
theorem dX8_times_12 : decode cX8_times 12 = .ok (.if_icmp .ge 41, 3) := dk_162 0 41 (dk_at dksX8_times_0 12 rfl rfl)
theorem dX8_times_15 : decode cX8_times 15 = .ok (.lload_n 3, 1) := dk_33 (dk_at dksX8_times_0 15 rfl rfl)
theorem dX8_times_16 : decode cX8_times 16 = .ok (.aload_n 0, 1) := dk_42 (dk_at dksX8_times_0 16 rfl rfl)
theorem dX8_times_17 : decode cX8_times 17 = .ok (.getfield 9, 3) := dk_180 0 9 (dk_at dksX8_times_0 17 rfl rfl)
theorem dX8_times_20 : decode cX8_times 20 = .ok (.iload 5, 2) := dk_21 5 (dk_at dksX8_times_0 20 rfl rfl)
theorem dX8_times_22 : decode cX8_times 22 = .ok (.iaload, 1) := dk_46 (dk_at dksX8_times_0 22 rfl rfl)
theorem dX8_times_23 : decode cX8_times 23 = .ok (.i2l, 1) := dk_133 (dk_at dksX8_times_0 23 rfl rfl)
theorem dX8_times_24 : decode cX8_times 24 = .ok (.ldc2_w 21, 3) := dk_20 0 21 (dk_at dksX8_times_1 0 rfl rfl)
theorem dX8_times_27 : decode cX8_times 27 = .ok (.land, 1) := dk_127 (dk_at dksX8_times_1 3 rfl rfl)
theorem dX8_times_28 : decode cX8_times 28 = .ok (.iload_n 1, 1) := dk_27 (dk_at dksX8_times_1 4 rfl rfl)
theorem dX8_times_29 : decode cX8_times 29 = .ok (.i2l, 1) := dk_133 (dk_at dksX8_times_1 5 rfl rfl)
theorem dX8_times_30 : decode cX8_times 30 = .ok (.lmul, 1) := dk_105 (dk_at dksX8_times_1 6 rfl rfl)
theorem dX8_times_31 : decode cX8_times 31 = .ok (.ladd, 1) := dk_97 (dk_at dksX8_times_1 7 rfl rfl)
theorem dX8_times_32 : decode cX8_times 32 = .ok (.lstore_n 3, 1) := dk_66 (dk_at dksX8_times_1 8 rfl rfl)
theorem dX8_times_33 : decode cX8_times 33 = .ok (.aload_n 0, 1) := dk_42 (dk_at dksX8_times_1 9 rfl rfl)
theorem dX8_times_34 : decode cX8_times 34 = .ok (.getfield 9, 3) := dk_180 0 9 (dk_at dksX8_times_1 10 rfl rfl)
theorem dX8_times_37 : decode cX8_times 37 = .ok (.iload 5, 2) := dk_21 5 (dk_at dksX8_times_1 13 rfl rfl)
theorem dX8_times_39 : decode cX8_times 39 = .ok (.lload_n 3, 1) := dk_33 (dk_at dksX8_times_1 15 rfl rfl)
theorem dX8_times_40 : decode cX8_times 40 = .ok (.l2i, 1) := dk_136 (dk_at dksX8_times_1 16 rfl rfl)
theorem dX8_times_41 : decode cX8_times 41 = .ok (.iastore, 1) := dk_79 (dk_at dksX8_times_1 17 rfl rfl)
theorem dX8_times_42 : decode cX8_times 42 = .ok (.lload_n 3, 1) := dk_33 (dk_at dksX8_times_1 18 rfl rfl)
theorem dX8_times_43 : decode cX8_times 43 = .ok (.bipush 32, 2) := dk_16 32 (dk_at dksX8_times_1 19 rfl rfl)
theorem dX8_times_45 : decode cX8_times 45 = .ok (.lushr, 1) := dk_125 (dk_at dksX8_times_1 21 rfl rfl)
theorem dX8_times_46 : decode cX8_times 46 = .ok (.lstore_n 3, 1) := dk_66 (dk_at dksX8_times_1 22 rfl rfl)
theorem dX8_times_47 : decode cX8_times 47 = .ok (.iinc 5 1, 3) := dk_132 5 1 (dk_at dksX8_times_2 0 rfl rfl)
theorem dX8_times_50 : decode cX8_times 50 = .ok (.goto (-44), 3) := dk_167 255 212 (dk_at dksX8_times_2 3 rfl rfl)
theorem dX8_times_53 : decode cX8_times 53 = .ok (.lload_n 3, 1) := dk_33 (dk_at dksX8_times_2 6 rfl rfl)
theorem dX8_times_54 : decode cX8_times 54 = .ok (.lconst 0, 1) := dk_9 (dk_at dksX8_times_2 7 rfl rfl)
theorem dX8_times_55 : decode cX8_times 55 = .ok (.lcmp, 1) := dk_148 (dk_at dksX8_times_2 8 rfl rfl)
theorem dX8_times_56 : decode cX8_times 56 = .ok (.ifCond .eq 24, 3) := dk_153 0 24 (dk_at dksX8_times_2 9 rfl rfl)
theorem dX8_times_59 : decode cX8_times 59 = .ok (.aload_n 0, 1) := dk_42 (dk_at dksX8_times_2 12 rfl rfl)
theorem dX8_times_60 : decode cX8_times 60 = .ok (.getfield 9, 3) := dk_180 0 9 (dk_at dksX8_times_2 13 rfl rfl)
theorem dX8_times_63 : decode cX8_times 63 = .ok (.aload_n 0, 1) := dk_42 (dk_at dksX8_times_2 16 rfl rfl)
theorem dX8_times_64 : decode cX8_times 64 = .ok (.getfield 13, 3) := dk_180 0 13 (dk_at dksX8_times_2 17 rfl rfl)
theorem dX8_times_67 : decode cX8_times 67 = .ok (.lload_n 3, 1) := dk_33 (dk_at dksX8_times_2 20 rfl rfl)
theorem dX8_times_68 : decode cX8_times 68 = .ok (.l2i, 1) := dk_136 (dk_at dksX8_times_2 21 rfl rfl)
theorem dX8_times_69 : decode cX8_times 69 = .ok (.iastore, 1) := dk_79 (dk_at dksX8_times_2 22 rfl rfl)
theorem dX8_times_70 : decode cX8_times 70 = .ok (.aload_n 0, 1) := dk_42 (dk_at dksX8_times_2 23 rfl rfl)
theorem dX8_times_71 : decode cX8_times 71 = .ok (.dup, 1) := dk_89 (dk_at dksX8_times_3 0 rfl rfl)
theorem dX8_times_72 : decode cX8_times 72 = .ok (.getfield 13, 3) := dk_180 0 13 (dk_at dksX8_times_3 1 rfl rfl)
theorem dX8_times_75 : decode cX8_times 75 = .ok (.iconst 1, 1) := dk_4 (dk_at dksX8_times_3 4 rfl rfl)
theorem dX8_times_76 : decode cX8_times 76 = .ok (.iadd, 1) := dk_96 (dk_at dksX8_times_3 5 rfl rfl)
theorem dX8_times_77 : decode cX8_times 77 = .ok (.putfield 13, 3) := dk_181 0 13 (dk_at dksX8_times_3 6 rfl rfl)
theorem dX8_times_80 : decode cX8_times 80 = .ok (.return_, 1) := dk_177 (dk_at dksX8_times_3 9 rfl rfl)
abbrev cX8_compare : ByteArray := prog_2_method_11_code
def yX8_compare : MethodName := ⟨RX8, "compare", "(LLibraryDesk$Big;LLibraryDesk$Big;)I"⟩
def dkwX8_compare_2 : List UInt8 := [172]
abbrev dktX8_compare_2 : List UInt8 := dkwX8_compare_2 ++ []
def dkwX8_compare_1 : List UInt8 := [167, 0, 4, 4, 172, 42, 43, 184, 0, 27, 61, 42, 180, 0, 17, 153, 0, 8, 28, 116, 167, 0, 4, 28]
abbrev dktX8_compare_1 : List UInt8 := dkwX8_compare_1 ++ dktX8_compare_2
def dkwX8_compare_0 : List UInt8 := [42, 182, 0, 23, 43, 182, 0, 23, 159, 0, 20, 42, 182, 0, 23, 43, 182, 0, 23, 162, 0, 7, 2]
abbrev dktX8_compare_0 : List UInt8 := dkwX8_compare_0 ++ dktX8_compare_1
theorem dksX8_compare_0 : cX8_compare.data.toList.drop 0 = dktX8_compare_0 := by decide +kernel
theorem dksX8_compare_1 : cX8_compare.data.toList.drop 23 = dktX8_compare_1 := dk_seg dksX8_compare_0 23 rfl rfl
theorem dksX8_compare_2 : cX8_compare.data.toList.drop 47 = dktX8_compare_2 := dk_seg dksX8_compare_1 24 rfl rfl
theorem dX8_compare_0 : decode cX8_compare 0 = .ok (.aload_n 0, 1) := dk_42 (dk_at dksX8_compare_0 0 rfl rfl)
theorem dX8_compare_1 : decode cX8_compare 1 = .ok (.invokevirtual 23, 3) := dk_182 0 23 (dk_at dksX8_compare_0 1 rfl rfl)
theorem dX8_compare_4 : decode cX8_compare 4 = .ok (.aload_n 1, 1) := dk_43 (dk_at dksX8_compare_0 4 rfl rfl)
theorem dX8_compare_5 : decode cX8_compare 5 = .ok (.invokevirtual 23, 3) := dk_182 0 23 (dk_at dksX8_compare_0 5 rfl rfl)
theorem dX8_compare_8 : decode cX8_compare 8 = .ok (.if_icmp .eq 20, 3) := dk_159 0 20 (dk_at dksX8_compare_0 8 rfl rfl)
theorem dX8_compare_11 : decode cX8_compare 11 = .ok (.aload_n 0, 1) := dk_42 (dk_at dksX8_compare_0 11 rfl rfl)
theorem dX8_compare_12 : decode cX8_compare 12 = .ok (.invokevirtual 23, 3) := dk_182 0 23 (dk_at dksX8_compare_0 12 rfl rfl)
theorem dX8_compare_15 : decode cX8_compare 15 = .ok (.aload_n 1, 1) := dk_43 (dk_at dksX8_compare_0 15 rfl rfl)
theorem dX8_compare_16 : decode cX8_compare 16 = .ok (.invokevirtual 23, 3) := dk_182 0 23 (dk_at dksX8_compare_0 16 rfl rfl)
theorem dX8_compare_19 : decode cX8_compare 19 = .ok (.if_icmp .ge 7, 3) := dk_162 0 7 (dk_at dksX8_compare_0 19 rfl rfl)
theorem dX8_compare_22 : decode cX8_compare 22 = .ok (.iconst (-1), 1) := dk_2 (dk_at dksX8_compare_0 22 rfl rfl)
theorem dX8_compare_23 : decode cX8_compare 23 = .ok (.goto 4, 3) := dk_167 0 4 (dk_at dksX8_compare_1 0 rfl rfl)
theorem dX8_compare_26 : decode cX8_compare 26 = .ok (.iconst 1, 1) := dk_4 (dk_at dksX8_compare_1 3 rfl rfl)
theorem dX8_compare_27 : decode cX8_compare 27 = .ok (.ireturn, 1) := dk_172 (dk_at dksX8_compare_1 4 rfl rfl)
theorem dX8_compare_28 : decode cX8_compare 28 = .ok (.aload_n 0, 1) := dk_42 (dk_at dksX8_compare_1 5 rfl rfl)
theorem dX8_compare_29 : decode cX8_compare 29 = .ok (.aload_n 1, 1) := dk_43 (dk_at dksX8_compare_1 6 rfl rfl)
theorem dX8_compare_30 : decode cX8_compare 30 = .ok (.invokestatic 27, 3) := dk_184 0 27 (dk_at dksX8_compare_1 7 rfl rfl)
theorem dX8_compare_33 : decode cX8_compare 33 = .ok (.istore_n 2, 1) := dk_61 (dk_at dksX8_compare_1 10 rfl rfl)
theorem dX8_compare_34 : decode cX8_compare 34 = .ok (.aload_n 0, 1) := dk_42 (dk_at dksX8_compare_1 11 rfl rfl)
theorem dX8_compare_35 : decode cX8_compare 35 = .ok (.getfield 17, 3) := dk_180 0 17 (dk_at dksX8_compare_1 12 rfl rfl)
theorem dX8_compare_38 : decode cX8_compare 38 = .ok (.ifCond .eq 8, 3) := dk_153 0 8 (dk_at dksX8_compare_1 15 rfl rfl)
theorem dX8_compare_41 : decode cX8_compare 41 = .ok (.iload_n 2, 1) := dk_28 (dk_at dksX8_compare_1 18 rfl rfl)
theorem dX8_compare_42 : decode cX8_compare 42 = .ok (.ineg, 1) := dk_116 (dk_at dksX8_compare_1 19 rfl rfl)
theorem dX8_compare_43 : decode cX8_compare 43 = .ok (.goto 4, 3) := dk_167 0 4 (dk_at dksX8_compare_1 20 rfl rfl)
theorem dX8_compare_46 : decode cX8_compare 46 = .ok (.iload_n 2, 1) := dk_28 (dk_at dksX8_compare_1 23 rfl rfl)
theorem dX8_compare_47 : decode cX8_compare 47 = .ok (.ireturn, 1) := dk_172 (dk_at dksX8_compare_2 0 rfl rfl)
theorem q515 : (Jvm.Cond.initialized "LibraryDesk$Big") ∈ lw_all := lw_g (lw_at lw_m1 8 rfl) rfl
theorem q768 : (Jvm.Cond.instantiable "LibraryDesk$Big" (3 : Nat)) ∈ lw_all := lw_g (lw_at lw_m2 21 rfl) rfl
theorem q770 : (Jvm.Cond.instanceMethod ({ cls := "LibraryDesk$Big", name := "<init>", desc := "()V" } : Jvm.MethodName)) ∈ lw_all := lw_g (lw_at lw_m2 23 rfl) rfl
theorem q771 : (Jvm.Cond.code ({ cls := "LibraryDesk$Big", name := "<init>", desc := "()V" } : Jvm.MethodName) prog_2_method_1_code (1 : Nat) (Option.none : Option Jvm.ClassFile.FieldType)) ∈ lw_all := lw_g (lw_at lw_m2 24 rfl) rfl
theorem q772 : (Jvm.Cond.methodLink "LibraryDesk$Big" (1 : Nat) ({ cls := "java/lang/Object", name := "<init>", desc := "()V" } : Jvm.MethodName)) ∈ lw_all := lw_g (lw_at lw_m2 25 rfl) rfl
theorem q773 : (Jvm.Cond.fieldLink "LibraryDesk$Big" (9 : Nat) "LibraryDesk$Big" "word" "[I") ∈ lw_all := lw_g (lw_at lw_m2 26 rfl) rfl
theorem q776 : (Jvm.Cond.fieldLink "LibraryDesk$Big" (13 : Nat) "LibraryDesk$Big" "size" "I") ∈ lw_all := lw_g (lw_at lw_m2 29 rfl) rfl
theorem q779 : (Jvm.Cond.fieldLink "LibraryDesk$Big" (17 : Nat) "LibraryDesk$Big" "less" "Z") ∈ lw_all := lw_g (lw_at lw_m2 32 rfl) rfl
theorem q784 : (Jvm.Cond.laysFinal "LibraryDesk$Big" "LibraryDesk$Big" "word" "[I") ∈ lw_all := lw_g (lw_at lw_m2 37 rfl) rfl
theorem q785 : (Jvm.Cond.soleField "LibraryDesk$Big" "word") ∈ lw_all := lw_g (lw_at lw_m2 38 rfl) rfl
theorem q786 : (Jvm.Cond.lays "LibraryDesk$Big" "LibraryDesk$Big" "size" "I") ∈ lw_all := lw_g (lw_at lw_m2 39 rfl) rfl
theorem q787 : (Jvm.Cond.soleField "LibraryDesk$Big" "size") ∈ lw_all := lw_g (lw_at lw_m2 40 rfl) rfl
theorem q788 : (Jvm.Cond.lays "LibraryDesk$Big" "LibraryDesk$Big" "less" "Z") ∈ lw_all := lw_g (lw_at lw_m2 41 rfl) rfl
theorem q789 : (Jvm.Cond.soleField "LibraryDesk$Big" "less") ∈ lw_all := lw_g (lw_at lw_m2 42 rfl) rfl
theorem q790 : (Jvm.Cond.superclass "LibraryDesk$Big" "java/lang/Object") ∈ lw_all := lw_g (lw_at lw_m2 43 rfl) rfl
theorem q1921 : (Jvm.Cond.privateMethod ({ cls := "LibraryDesk$Big", name := "zero", desc := "()V" } : Jvm.MethodName)) ∈ lw_tbl := lw_at lw_m6 214 rfl
theorem q1922 : (Jvm.Cond.instanceMethod ({ cls := "LibraryDesk$Big", name := "zero", desc := "()V" } : Jvm.MethodName)) ∈ lw_all := lw_g (lw_at lw_m6 215 rfl) rfl
theorem q1923 : (Jvm.Cond.code ({ cls := "LibraryDesk$Big", name := "zero", desc := "()V" } : Jvm.MethodName) prog_2_method_2_code (1 : Nat) (Option.none : Option Jvm.ClassFile.FieldType)) ∈ lw_all := lw_g (lw_at lw_m6 216 rfl) rfl
theorem q3582 : (Jvm.Cond.privateMethod ({ cls := "LibraryDesk$Big", name := "set", desc := "(J)V" } : Jvm.MethodName)) ∈ lw_tbl := lw_at lw_m13 195 rfl
theorem q3583 : (Jvm.Cond.instanceMethod ({ cls := "LibraryDesk$Big", name := "set", desc := "(J)V" } : Jvm.MethodName)) ∈ lw_all := lw_g (lw_at lw_m13 196 rfl) rfl
theorem q3584 : (Jvm.Cond.code ({ cls := "LibraryDesk$Big", name := "set", desc := "(J)V" } : Jvm.MethodName) prog_2_method_6_code (5 : Nat) (Option.none : Option Jvm.ClassFile.FieldType)) ∈ lw_all := lw_g (lw_at lw_m13 197 rfl) rfl
theorem q3586 : (Jvm.Cond.privateMethod ({ cls := "LibraryDesk$Big", name := "sign", desc := "()I" } : Jvm.MethodName)) ∈ lw_tbl := lw_at lw_m13 199 rfl
theorem q3587 : (Jvm.Cond.instanceMethod ({ cls := "LibraryDesk$Big", name := "sign", desc := "()I" } : Jvm.MethodName)) ∈ lw_all := lw_g (lw_at lw_m13 200 rfl) rfl
theorem q3588 : (Jvm.Cond.code ({ cls := "LibraryDesk$Big", name := "sign", desc := "()I" } : Jvm.MethodName) prog_2_method_4_code (1 : Nat) (Option.some Jvm.ClassFile.FieldType.int)) ∈ lw_all := lw_g (lw_at lw_m13 201 rfl) rfl
theorem q3615 : (Jvm.Cond.privateMethod ({ cls := "LibraryDesk$Big", name := "add", desc := "(LLibraryDesk$Big;LLibraryDesk$Big;Z)V" } : Jvm.MethodName)) ∈ lw_tbl := lw_at lw_m13 228 rfl
theorem q3616 : (Jvm.Cond.instanceMethod ({ cls := "LibraryDesk$Big", name := "add", desc := "(LLibraryDesk$Big;LLibraryDesk$Big;Z)V" } : Jvm.MethodName)) ∈ lw_all := lw_g (lw_at lw_m13 229 rfl) rfl
theorem q3617 : (Jvm.Cond.code ({ cls := "LibraryDesk$Big", name := "add", desc := "(LLibraryDesk$Big;LLibraryDesk$Big;Z)V" } : Jvm.MethodName) prog_2_method_14_code (6 : Nat) (Option.none : Option Jvm.ClassFile.FieldType)) ∈ lw_all := lw_g (lw_at lw_m13 230 rfl) rfl
theorem q3618 : (Jvm.Cond.methodLink "LibraryDesk$Big" (34 : Nat) ({ cls := "LibraryDesk$Big", name := "addSizes", desc := "(LLibraryDesk$Big;LLibraryDesk$Big;)V" } : Jvm.MethodName)) ∈ lw_all := lw_g (lw_at lw_m13 231 rfl) rfl
theorem q3619 : (Jvm.Cond.privateMethod ({ cls := "LibraryDesk$Big", name := "addSizes", desc := "(LLibraryDesk$Big;LLibraryDesk$Big;)V" } : Jvm.MethodName)) ∈ lw_tbl := lw_at lw_m13 232 rfl
theorem q3620 : (Jvm.Cond.instanceMethod ({ cls := "LibraryDesk$Big", name := "addSizes", desc := "(LLibraryDesk$Big;LLibraryDesk$Big;)V" } : Jvm.MethodName)) ∈ lw_all := lw_g (lw_at lw_m13 233 rfl) rfl
theorem q3621 : (Jvm.Cond.code ({ cls := "LibraryDesk$Big", name := "addSizes", desc := "(LLibraryDesk$Big;LLibraryDesk$Big;)V" } : Jvm.MethodName) prog_2_method_12_code (7 : Nat) (Option.none : Option Jvm.ClassFile.FieldType)) ∈ lw_all := lw_g (lw_at lw_m13 234 rfl) rfl
theorem q3622 : (Jvm.Cond.constantLong "LibraryDesk$Big" (21 : Nat) (4294967295 : Int64)) ∈ lw_all := lw_g (lw_at lw_m13 235 rfl) rfl
theorem q3623 : (Jvm.Cond.methodLink "LibraryDesk$Big" (27 : Nat) ({ cls := "LibraryDesk$Big", name := "compareSizes", desc := "(LLibraryDesk$Big;LLibraryDesk$Big;)I" } : Jvm.MethodName)) ∈ lw_all := lw_g (lw_at lw_m13 236 rfl) rfl
theorem q3624 : (Jvm.Cond.static ({ cls := "LibraryDesk$Big", name := "compareSizes", desc := "(LLibraryDesk$Big;LLibraryDesk$Big;)I" } : Jvm.MethodName)) ∈ lw_all := lw_g (lw_at lw_m13 237 rfl) rfl
theorem q3625 : (Jvm.Cond.code ({ cls := "LibraryDesk$Big", name := "compareSizes", desc := "(LLibraryDesk$Big;LLibraryDesk$Big;)I" } : Jvm.MethodName) prog_2_method_10_code (7 : Nat) (Option.some Jvm.ClassFile.FieldType.int)) ∈ lw_all := lw_g (lw_at lw_m13 238 rfl) rfl
theorem q3626 : (Jvm.Cond.methodLink "LibraryDesk$Big" (38 : Nat) ({ cls := "LibraryDesk$Big", name := "takeSizes", desc := "(LLibraryDesk$Big;LLibraryDesk$Big;)V" } : Jvm.MethodName)) ∈ lw_all := lw_g (lw_at lw_m13 239 rfl) rfl
theorem q3627 : (Jvm.Cond.privateMethod ({ cls := "LibraryDesk$Big", name := "takeSizes", desc := "(LLibraryDesk$Big;LLibraryDesk$Big;)V" } : Jvm.MethodName)) ∈ lw_tbl := lw_at lw_m14 0 rfl
theorem q3628 : (Jvm.Cond.instanceMethod ({ cls := "LibraryDesk$Big", name := "takeSizes", desc := "(LLibraryDesk$Big;LLibraryDesk$Big;)V" } : Jvm.MethodName)) ∈ lw_all := lw_g (lw_at lw_m14 1 rfl) rfl
theorem q3629 : (Jvm.Cond.code ({ cls := "LibraryDesk$Big", name := "takeSizes", desc := "(LLibraryDesk$Big;LLibraryDesk$Big;)V" } : Jvm.MethodName) prog_2_method_13_code (7 : Nat) (Option.none : Option Jvm.ClassFile.FieldType)) ∈ lw_all := lw_g (lw_at lw_m14 2 rfl) rfl
theorem q3630 : (Jvm.Cond.methodLink "LibraryDesk$Big" (31 : Nat) ({ cls := "LibraryDesk$Big", name := "trim", desc := "()V" } : Jvm.MethodName)) ∈ lw_all := lw_g (lw_at lw_m14 3 rfl) rfl
theorem q3631 : (Jvm.Cond.privateMethod ({ cls := "LibraryDesk$Big", name := "trim", desc := "()V" } : Jvm.MethodName)) ∈ lw_tbl := lw_at lw_m14 4 rfl
theorem q3632 : (Jvm.Cond.instanceMethod ({ cls := "LibraryDesk$Big", name := "trim", desc := "()V" } : Jvm.MethodName)) ∈ lw_all := lw_g (lw_at lw_m14 5 rfl) rfl
theorem q3633 : (Jvm.Cond.code ({ cls := "LibraryDesk$Big", name := "trim", desc := "()V" } : Jvm.MethodName) prog_2_method_7_code (1 : Nat) (Option.none : Option Jvm.ClassFile.FieldType)) ∈ lw_all := lw_g (lw_at lw_m14 6 rfl) rfl
theorem q3635 : (Jvm.Cond.privateMethod ({ cls := "LibraryDesk$Big", name := "multiply", desc := "(LLibraryDesk$Big;LLibraryDesk$Big;)V" } : Jvm.MethodName)) ∈ lw_tbl := lw_at lw_m14 8 rfl
theorem q3636 : (Jvm.Cond.instanceMethod ({ cls := "LibraryDesk$Big", name := "multiply", desc := "(LLibraryDesk$Big;LLibraryDesk$Big;)V" } : Jvm.MethodName)) ∈ lw_all := lw_g (lw_at lw_m14 9 rfl) rfl
theorem q3637 : (Jvm.Cond.code ({ cls := "LibraryDesk$Big", name := "multiply", desc := "(LLibraryDesk$Big;LLibraryDesk$Big;)V" } : Jvm.MethodName) prog_2_method_15_code (10 : Nat) (Option.none : Option Jvm.ClassFile.FieldType)) ∈ lw_all := lw_g (lw_at lw_m14 10 rfl) rfl
theorem q3643 : (Jvm.Cond.privateMethod ({ cls := "LibraryDesk$Big", name := "isZero", desc := "()Z" } : Jvm.MethodName)) ∈ lw_tbl := lw_at lw_m14 16 rfl
theorem q3644 : (Jvm.Cond.instanceMethod ({ cls := "LibraryDesk$Big", name := "isZero", desc := "()Z" } : Jvm.MethodName)) ∈ lw_all := lw_g (lw_at lw_m14 17 rfl) rfl
theorem q3645 : (Jvm.Cond.code ({ cls := "LibraryDesk$Big", name := "isZero", desc := "()Z" } : Jvm.MethodName) prog_2_method_3_code (1 : Nat) (Option.some Jvm.ClassFile.FieldType.boolean)) ∈ lw_all := lw_g (lw_at lw_m14 18 rfl) rfl
theorem q3655 : (Jvm.Cond.privateMethod ({ cls := "LibraryDesk$Big", name := "set", desc := "(LLibraryDesk$Big;)V" } : Jvm.MethodName)) ∈ lw_tbl := lw_at lw_m14 28 rfl
theorem q3656 : (Jvm.Cond.instanceMethod ({ cls := "LibraryDesk$Big", name := "set", desc := "(LLibraryDesk$Big;)V" } : Jvm.MethodName)) ∈ lw_all := lw_g (lw_at lw_m14 29 rfl) rfl
theorem q3657 : (Jvm.Cond.code ({ cls := "LibraryDesk$Big", name := "set", desc := "(LLibraryDesk$Big;)V" } : Jvm.MethodName) prog_2_method_5_code (3 : Nat) (Option.none : Option Jvm.ClassFile.FieldType)) ∈ lw_all := lw_g (lw_at lw_m14 30 rfl) rfl
theorem q3659 : (Jvm.Cond.privateMethod ({ cls := "LibraryDesk$Big", name := "ove\x72", desc := "(I)I" } : Jvm.MethodName)) ∈ lw_tbl := lw_at lw_m14 32 rfl
theorem q3660 : (Jvm.Cond.instanceMethod ({ cls := "LibraryDesk$Big", name := "ove\x72", desc := "(I)I" } : Jvm.MethodName)) ∈ lw_all := lw_g (lw_at lw_m14 33 rfl) rfl
theorem q3661 : (Jvm.Cond.code ({ cls := "LibraryDesk$Big", name := "ove\x72", desc := "(I)I" } : Jvm.MethodName) prog_2_method_17_code (5 : Nat) (Option.some Jvm.ClassFile.FieldType.int)) ∈ lw_all := lw_g (lw_at lw_m14 34 rfl) rfl
theorem q3670 : (Jvm.Cond.privateMethod ({ cls := "LibraryDesk$Big", name := "length", desc := "()I" } : Jvm.MethodName)) ∈ lw_tbl := lw_at lw_m14 43 rfl
theorem q3671 : (Jvm.Cond.instanceMethod ({ cls := "LibraryDesk$Big", name := "length", desc := "()I" } : Jvm.MethodName)) ∈ lw_all := lw_g (lw_at lw_m14 44 rfl) rfl
theorem q3672 : (Jvm.Cond.code ({ cls := "LibraryDesk$Big", name := "length", desc := "()I" } : Jvm.MethodName) prog_2_method_8_code (3 : Nat) (Option.some Jvm.ClassFile.FieldType.int)) ∈ lw_all := lw_g (lw_at lw_m14 45 rfl) rfl
theorem q3674 : (Jvm.Cond.privateMethod ({ cls := "LibraryDesk$Big", name := "shiftLeft", desc := "(I)V" } : Jvm.MethodName)) ∈ lw_tbl := lw_at lw_m14 47 rfl
theorem q3675 : (Jvm.Cond.instanceMethod ({ cls := "LibraryDesk$Big", name := "shiftLeft", desc := "(I)V" } : Jvm.MethodName)) ∈ lw_all := lw_g (lw_at lw_m14 48 rfl) rfl
theorem q3676 : (Jvm.Cond.code ({ cls := "LibraryDesk$Big", name := "shiftLeft", desc := "(I)V" } : Jvm.MethodName) prog_2_method_18_code (7 : Nat) (Option.none : Option Jvm.ClassFile.FieldType)) ∈ lw_all := lw_g (lw_at lw_m14 49 rfl) rfl
theorem q3695 : (Jvm.Cond.privateMethod ({ cls := "LibraryDesk$Big", name := "shiftRight", desc := "(I)Z" } : Jvm.MethodName)) ∈ lw_tbl := lw_at lw_m14 68 rfl
theorem q3696 : (Jvm.Cond.instanceMethod ({ cls := "LibraryDesk$Big", name := "shiftRight", desc := "(I)Z" } : Jvm.MethodName)) ∈ lw_all := lw_g (lw_at lw_m14 69 rfl) rfl
theorem q3697 : (Jvm.Cond.code ({ cls := "LibraryDesk$Big", name := "shiftRight", desc := "(I)Z" } : Jvm.MethodName) prog_2_method_19_code (8 : Nat) (Option.some Jvm.ClassFile.FieldType.boolean)) ∈ lw_all := lw_g (lw_at lw_m14 70 rfl) rfl
theorem q3698 : (Jvm.Cond.methodLink "LibraryDesk$Big" (41 : Nat) ({ cls := "LibraryDesk$Big", name := "bit", desc := "(I)Z" } : Jvm.MethodName)) ∈ lw_all := lw_g (lw_at lw_m14 71 rfl) rfl
theorem q3699 : (Jvm.Cond.privateMethod ({ cls := "LibraryDesk$Big", name := "bit", desc := "(I)Z" } : Jvm.MethodName)) ∈ lw_tbl := lw_at lw_m14 72 rfl
theorem q3700 : (Jvm.Cond.instanceMethod ({ cls := "LibraryDesk$Big", name := "bit", desc := "(I)Z" } : Jvm.MethodName)) ∈ lw_all := lw_g (lw_at lw_m14 73 rfl) rfl
theorem q3701 : (Jvm.Cond.code ({ cls := "LibraryDesk$Big", name := "bit", desc := "(I)Z" } : Jvm.MethodName) prog_2_method_9_code (2 : Nat) (Option.some Jvm.ClassFile.FieldType.boolean)) ∈ lw_all := lw_g (lw_at lw_m14 74 rfl) rfl
theorem q3735 : (Jvm.Cond.privateMethod ({ cls := "LibraryDesk$Big", name := "logic", desc := "(LLibraryDesk$Big;LLibraryDesk$Big;I)V" } : Jvm.MethodName)) ∈ lw_tbl := lw_at lw_m14 108 rfl
theorem q3736 : (Jvm.Cond.instanceMethod ({ cls := "LibraryDesk$Big", name := "logic", desc := "(LLibraryDesk$Big;LLibraryDesk$Big;I)V" } : Jvm.MethodName)) ∈ lw_all := lw_g (lw_at lw_m14 109 rfl) rfl
theorem q3737 : (Jvm.Cond.code ({ cls := "LibraryDesk$Big", name := "logic", desc := "(LLibraryDesk$Big;LLibraryDesk$Big;I)V" } : Jvm.MethodName) prog_2_method_21_code (8 : Nat) (Option.none : Option Jvm.ClassFile.FieldType)) ∈ lw_all := lw_g (lw_at lw_m14 110 rfl) rfl
theorem q3738 : (Jvm.Cond.methodLink "LibraryDesk$Big" (45 : Nat) ({ cls := "LibraryDesk$Big", name := "endless", desc := "(LLibraryDesk$Big;I)I" } : Jvm.MethodName)) ∈ lw_all := lw_g (lw_at lw_m14 111 rfl) rfl
theorem q3739 : (Jvm.Cond.static ({ cls := "LibraryDesk$Big", name := "endless", desc := "(LLibraryDesk$Big;I)I" } : Jvm.MethodName)) ∈ lw_all := lw_g (lw_at lw_m14 112 rfl) rfl
theorem q3740 : (Jvm.Cond.code ({ cls := "LibraryDesk$Big", name := "endless", desc := "(LLibraryDesk$Big;I)I" } : Jvm.MethodName) prog_2_method_20_code (4 : Nat) (Option.some Jvm.ClassFile.FieldType.int)) ∈ lw_all := lw_g (lw_at lw_m14 113 rfl) rfl
theorem q3766 : (Jvm.Cond.privateMethod ({ cls := "LibraryDesk$Big", name := "times", desc := "(II)V" } : Jvm.MethodName)) ∈ lw_tbl := lw_at lw_m14 139 rfl
theorem q3767 : (Jvm.Cond.instanceMethod ({ cls := "LibraryDesk$Big", name := "times", desc := "(II)V" } : Jvm.MethodName)) ∈ lw_all := lw_g (lw_at lw_m14 140 rfl) rfl
theorem q3768 : (Jvm.Cond.code ({ cls := "LibraryDesk$Big", name := "times", desc := "(II)V" } : Jvm.MethodName) prog_2_method_16_code (6 : Nat) (Option.none : Option Jvm.ClassFile.FieldType)) ∈ lw_all := lw_g (lw_at lw_m14 141 rfl) rfl
theorem q3842 : (Jvm.Cond.static ({ cls := "LibraryDesk$Big", name := "compare", desc := "(LLibraryDesk$Big;LLibraryDesk$Big;)I" } : Jvm.MethodName)) ∈ lw_all := lw_g (lw_at lw_m14 215 rfl) rfl
theorem q3843 : (Jvm.Cond.code ({ cls := "LibraryDesk$Big", name := "compare", desc := "(LLibraryDesk$Big;LLibraryDesk$Big;)I" } : Jvm.MethodName) prog_2_method_11_code (3 : Nat) (Option.some Jvm.ClassFile.FieldType.int)) ∈ lw_all := lw_g (lw_at lw_m14 216 rfl) rfl
theorem q3844 : (Jvm.Cond.methodLink "LibraryDesk$Big" (23 : Nat) ({ cls := "LibraryDesk$Big", name := "sign", desc := "()I" } : Jvm.MethodName)) ∈ lw_all := lw_g (lw_at lw_m14 217 rfl) rfl
theorem q6114 : (Jvm.Cond.castable "LibraryDesk$Big" "java/lang/Object") ∈ lw_tbl := lw_at lw_m24 87 rfl
theorem in_X8 : ∀ w ∈ wsX80, w ∈ lw_all := lw_in wsX80 [784, 786, 788] (by decide +kernel) (by decide +kernel)

/-! LibraryDesk$Decimals -/
set_option maxRecDepth 100000
def RX9 : String := "LibraryDesk$Decimals"
def TX9 : u_T := fun k => match k with
  | 0 => ("LibraryDesk$Decimals", "\x72", "LLibraryDesk$Reckoner;", true)
  | 1 => ("LibraryDesk$Decimals", "a", "LLibraryDesk$Big;", true)
  | 2 => ("LibraryDesk$Decimals", "b", "LLibraryDesk$Big;", true)
  | 3 => ("LibraryDesk$Decimals", "made", "LLibraryDesk$Big;", true)
  | 4 => ("LibraryDesk$Decimals", "ten", "LLibraryDesk$Big;", true)
  | 5 => ("LibraryDesk$Decimals", "unit", "LLibraryDesk$Big;", true)
  | _ => ("LibraryDesk$Decimals", "scale", "I", false)
def tyX9 : Nat → FieldType := fun k => match k with
  | 0 => .object "LibraryDesk$Reckone\x72"
  | 1 => .object "LibraryDesk$Big"
  | 2 => .object "LibraryDesk$Big"
  | 3 => .object "LibraryDesk$Big"
  | 4 => .object "LibraryDesk$Big"
  | 5 => .object "LibraryDesk$Big"
  | _ => .int
abbrev wsX90 : List Cond := u_ws RX9 TX9 7
theorem nmX9 : ∀ a, a < 7 → ∀ b, b < 7 → a ≠ b → (TX9 a).2.1 ≠ (TX9 b).2.1 := by decide +kernel
theorem tyX9_ok : ∀ k, k < 7 → parseFieldDescriptor (TX9 k).2.2.1 = some (tyX9 k) := by decide +kernel
abbrev cX9_init : ByteArray := prog_8_method_1_code
def yX9_init : MethodName := ⟨RX9, "<init>", "(LLibraryDesk$Reckoner;)V"⟩
def dkwX9_init_2 : List UInt8 := [181, 0, 22, 42, 187, 0, 7, 89, 183, 0, 9, 181, 0, 25, 42, 43, 181, 0, 28, 177]
abbrev dktX9_init_2 : List UInt8 := dkwX9_init_2 ++ []
def dkwX9_init_1 : List UInt8 := [181, 0, 16, 42, 187, 0, 7, 89, 183, 0, 9, 181, 0, 19, 42, 187, 0, 7, 89, 183, 0, 9]
abbrev dktX9_init_1 : List UInt8 := dkwX9_init_1 ++ dktX9_init_2
def dkwX9_init_0 : List UInt8 := [42, 183, 0, 1, 42, 187, 0, 7, 89, 183, 0, 9, 181, 0, 10, 42, 187, 0, 7, 89, 183, 0, 9]
abbrev dktX9_init_0 : List UInt8 := dkwX9_init_0 ++ dktX9_init_1
theorem dksX9_init_0 : cX9_init.data.toList.drop 0 = dktX9_init_0 := by decide +kernel
theorem dksX9_init_1 : cX9_init.data.toList.drop 23 = dktX9_init_1 := dk_seg dksX9_init_0 23 rfl rfl
theorem dksX9_init_2 : cX9_init.data.toList.drop 45 = dktX9_init_2 := dk_seg dksX9_init_1 22 rfl rfl
theorem dX9_init_0 : decode cX9_init 0 = .ok (.aload_n 0, 1) := dk_42 (dk_at dksX9_init_0 0 rfl rfl)
theorem dX9_init_1 : decode cX9_init 1 = .ok (.invokespecial 1, 3) := dk_183 0 1 (dk_at dksX9_init_0 1 rfl rfl)
theorem dX9_init_4 : decode cX9_init 4 = .ok (.aload_n 0, 1) := dk_42 (dk_at dksX9_init_0 4 rfl rfl)
theorem dX9_init_5 : decode cX9_init 5 = .ok (.new 7, 3) := dk_187 0 7 (dk_at dksX9_init_0 5 rfl rfl)
theorem dX9_init_8 : decode cX9_init 8 = .ok (.dup, 1) := dk_89 (dk_at dksX9_init_0 8 rfl rfl)
theorem dX9_init_9 : decode cX9_init 9 = .ok (.invokespecial 9, 3) := dk_183 0 9 (dk_at dksX9_init_0 9 rfl rfl)
theorem dX9_init_12 : decode cX9_init 12 = .ok (.putfield 10, 3) := dk_181 0 10 (dk_at dksX9_init_0 12 rfl rfl)
theorem dX9_init_15 : decode cX9_init 15 = .ok (.aload_n 0, 1) := dk_42 (dk_at dksX9_init_0 15 rfl rfl)
theorem dX9_init_16 : decode cX9_init 16 = .ok (.new 7, 3) := dk_187 0 7 (dk_at dksX9_init_0 16 rfl rfl)
theorem dX9_init_19 : decode cX9_init 19 = .ok (.dup, 1) := dk_89 (dk_at dksX9_init_0 19 rfl rfl)
theorem dX9_init_20 : decode cX9_init 20 = .ok (.invokespecial 9, 3) := dk_183 0 9 (dk_at dksX9_init_0 20 rfl rfl)
theorem dX9_init_23 : decode cX9_init 23 = .ok (.putfield 16, 3) := dk_181 0 16 (dk_at dksX9_init_1 0 rfl rfl)
theorem dX9_init_26 : decode cX9_init 26 = .ok (.aload_n 0, 1) := dk_42 (dk_at dksX9_init_1 3 rfl rfl)
theorem dX9_init_27 : decode cX9_init 27 = .ok (.new 7, 3) := dk_187 0 7 (dk_at dksX9_init_1 4 rfl rfl)
theorem dX9_init_30 : decode cX9_init 30 = .ok (.dup, 1) := dk_89 (dk_at dksX9_init_1 7 rfl rfl)
theorem dX9_init_31 : decode cX9_init 31 = .ok (.invokespecial 9, 3) := dk_183 0 9 (dk_at dksX9_init_1 8 rfl rfl)
theorem dX9_init_34 : decode cX9_init 34 = .ok (.putfield 19, 3) := dk_181 0 19 (dk_at dksX9_init_1 11 rfl rfl)
theorem dX9_init_37 : decode cX9_init 37 = .ok (.aload_n 0, 1) := dk_42 (dk_at dksX9_init_1 14 rfl rfl)
theorem dX9_init_38 : decode cX9_init 38 = .ok (.new 7, 3) := dk_187 0 7 (dk_at dksX9_init_1 15 rfl rfl)
theorem dX9_init_41 : decode cX9_init 41 = .ok (.dup, 1) := dk_89 (dk_at dksX9_init_1 18 rfl rfl)
theorem dX9_init_42 : decode cX9_init 42 = .ok (.invokespecial 9, 3) := dk_183 0 9 (dk_at dksX9_init_1 19 rfl rfl)
theorem dX9_init_45 : decode cX9_init 45 = .ok (.putfield 22, 3) := dk_181 0 22 (dk_at dksX9_init_2 0 rfl rfl)
theorem dX9_init_48 : decode cX9_init 48 = .ok (.aload_n 0, 1) := dk_42 (dk_at dksX9_init_2 3 rfl rfl)
theorem dX9_init_49 : decode cX9_init 49 = .ok (.new 7, 3) := dk_187 0 7 (dk_at dksX9_init_2 4 rfl rfl)
theorem dX9_init_52 : decode cX9_init 52 = .ok (.dup, 1) := dk_89 (dk_at dksX9_init_2 7 rfl rfl)
theorem dX9_init_53 : decode cX9_init 53 = .ok (.invokespecial 9, 3) := dk_183 0 9 (dk_at dksX9_init_2 8 rfl rfl)
theorem dX9_init_56 : decode cX9_init 56 = .ok (.putfield 25, 3) := dk_181 0 25 (dk_at dksX9_init_2 11 rfl rfl)
theorem dX9_init_59 : decode cX9_init 59 = .ok (.aload_n 0, 1) := dk_42 (dk_at dksX9_init_2 14 rfl rfl)
theorem dX9_init_60 : decode cX9_init 60 = .ok (.aload_n 1, 1) := dk_43 (dk_at dksX9_init_2 15 rfl rfl)
theorem dX9_init_61 : decode cX9_init 61 = .ok (.putfield 28, 3) := dk_181 0 28 (dk_at dksX9_init_2 16 rfl rfl)
theorem dX9_init_64 : decode cX9_init 64 = .ok (.return_, 1) := dk_177 (dk_at dksX9_init_2 19 rfl rfl)
abbrev cX9_reckon : ByteArray := prog_8_method_10_code
def yX9_reckon : MethodName := ⟨RX9, "reckon", "(LLibraryDesk$DecimalThing;ILLibraryDesk$DecimalThing;LLibraryDesk$DecimalThing;I)V"⟩
def dkwX9_reckon_12 : List UInt8 := [180, 0, 48, 42, 180, 0, 10, 182, 0, 100, 43, 42, 180, 0, 47, 181, 0, 41, 177]
abbrev dktX9_reckon_12 : List UInt8 := dkwX9_reckon_12 ++ []
def dkwX9_reckon_11 : List UInt8 := [42, 180, 0, 10, 182, 0, 106, 17, 1, 44, 163, 0, 7, 4, 167, 0, 4, 3, 184, 0, 84, 43]
abbrev dktX9_reckon_11 : List UInt8 := dkwX9_reckon_11 ++ dktX9_reckon_12
def dkwX9_reckon_10 : List UInt8 := [42, 180, 0, 47, 17, 255, 56, 161, 0, 34, 42, 180, 0, 47, 17, 0, 200, 163, 0, 24, 42, 180, 0, 28]
abbrev dktX9_reckon_10 : List UInt8 := dkwX9_reckon_10 ++ dktX9_reckon_11
def dkwX9_reckon_9 : List UInt8 := [180, 0, 10, 42, 180, 0, 16, 182, 0, 73, 42, 180, 0, 10, 42, 180, 0, 28, 180, 0, 55, 182, 0, 100]
abbrev dktX9_reckon_9 : List UInt8 := dkwX9_reckon_9 ++ dktX9_reckon_10
def dkwX9_reckon_8 : List UInt8 := [154, 0, 7, 4, 167, 0, 4, 3, 184, 0, 84, 42, 45, 25, 4, 182, 0, 122, 42, 180, 0, 28, 42]
abbrev dktX9_reckon_8 : List UInt8 := dkwX9_reckon_8 ++ dktX9_reckon_9
def dkwX9_reckon_7 : List UInt8 := [21, 7, 182, 0, 129, 167, 0, 66, 42, 45, 182, 0, 132, 167, 0, 58, 25, 4, 180, 0, 48, 182, 0, 80]
abbrev dktX9_reckon_7 : List UInt8 := dkwX9_reckon_7 ++ dktX9_reckon_8
def dkwX9_reckon_6 : List UInt8 := [21, 7, 182, 0, 126, 167, 0, 90, 42, 45, 21, 6, 21, 7, 182, 0, 110, 167, 0, 78, 42, 45, 21, 6]
abbrev dktX9_reckon_6 : List UInt8 := dkwX9_reckon_6 ++ dktX9_reckon_7
def dkwX9_reckon_5 : List UInt8 := [180, 0, 48, 182, 0, 80, 154, 0, 7, 4, 167, 0, 4, 3, 184, 0, 84, 42, 45, 25, 4, 21, 6]
abbrev dktX9_reckon_5 : List UInt8 := dkwX9_reckon_5 ++ dktX9_reckon_6
def dkwX9_reckon_4 : List UInt8 := [181, 0, 47, 42, 180, 0, 10, 45, 180, 0, 48, 25, 4, 180, 0, 48, 182, 0, 37, 167, 0, 123, 25, 4]
abbrev dktX9_reckon_4 : List UInt8 := dkwX9_reckon_4 ++ dktX9_reckon_5
def dkwX9_reckon_3 : List UInt8 := [4, 167, 0, 4, 3, 182, 0, 58, 167, 0, 156, 42, 45, 180, 0, 41, 25, 4, 180, 0, 41, 96]
abbrev dktX9_reckon_3 : List UInt8 := dkwX9_reckon_3 ++ dktX9_reckon_4
def dkwX9_reckon_2 : List UInt8 := [42, 45, 25, 4, 182, 0, 122, 42, 180, 0, 10, 42, 180, 0, 10, 42, 180, 0, 16, 28, 4, 160, 0, 7]
abbrev dktX9_reckon_2 : List UInt8 := dkwX9_reckon_2 ++ dktX9_reckon_3
def dkwX9_reckon_1 : List UInt8 := [170, 0, 0, 0, 0, 0, 176, 0, 0, 0, 0, 0, 0, 0, 6, 0, 0, 0, 43, 0, 0, 0, 43, 0, 0, 0, 78, 0, 0, 0, 111, 0, 0, 0, 144, 0, 0, 0, 156, 0, 0, 0, 168]
abbrev dktX9_reckon_1 : List UInt8 := dkwX9_reckon_1 ++ dktX9_reckon_2
def dkwX9_reckon_0 : List UInt8 := [21, 5, 16, 8, 108, 54, 6, 21, 5, 16, 8, 184, 0, 118, 54, 7, 28]
abbrev dktX9_reckon_0 : List UInt8 := dkwX9_reckon_0 ++ dktX9_reckon_1
theorem dksX9_reckon_0 : cX9_reckon.data.toList.drop 0 = dktX9_reckon_0 := by decide +kernel
theorem dksX9_reckon_1 : cX9_reckon.data.toList.drop 17 = dktX9_reckon_1 := dk_seg dksX9_reckon_0 17 rfl rfl
theorem dksX9_reckon_2 : cX9_reckon.data.toList.drop 60 = dktX9_reckon_2 := dk_seg dksX9_reckon_1 43 rfl rfl
theorem dksX9_reckon_3 : cX9_reckon.data.toList.drop 84 = dktX9_reckon_3 := dk_seg dksX9_reckon_2 24 rfl rfl
theorem dksX9_reckon_4 : cX9_reckon.data.toList.drop 106 = dktX9_reckon_4 := dk_seg dksX9_reckon_3 22 rfl rfl
theorem dksX9_reckon_5 : cX9_reckon.data.toList.drop 130 = dktX9_reckon_5 := dk_seg dksX9_reckon_4 24 rfl rfl
theorem dksX9_reckon_6 : cX9_reckon.data.toList.drop 153 = dktX9_reckon_6 := dk_seg dksX9_reckon_5 23 rfl rfl
theorem dksX9_reckon_7 : cX9_reckon.data.toList.drop 177 = dktX9_reckon_7 := dk_seg dksX9_reckon_6 24 rfl rfl
theorem dksX9_reckon_8 : cX9_reckon.data.toList.drop 201 = dktX9_reckon_8 := dk_seg dksX9_reckon_7 24 rfl rfl
theorem dksX9_reckon_9 : cX9_reckon.data.toList.drop 224 = dktX9_reckon_9 := dk_seg dksX9_reckon_8 23 rfl rfl
theorem dksX9_reckon_10 : cX9_reckon.data.toList.drop 248 = dktX9_reckon_10 := dk_seg dksX9_reckon_9 24 rfl rfl
theorem dksX9_reckon_11 : cX9_reckon.data.toList.drop 272 = dktX9_reckon_11 := dk_seg dksX9_reckon_10 24 rfl rfl
theorem dksX9_reckon_12 : cX9_reckon.data.toList.drop 294 = dktX9_reckon_12 := dk_seg dksX9_reckon_11 22 rfl rfl
theorem dX9_reckon_0 : decode cX9_reckon 0 = .ok (.iload 5, 2) := dk_21 5 (dk_at dksX9_reckon_0 0 rfl rfl)
theorem dX9_reckon_2 : decode cX9_reckon 2 = .ok (.bipush 8, 2) := dk_16 8 (dk_at dksX9_reckon_0 2 rfl rfl)
theorem dX9_reckon_4 : decode cX9_reckon 4 = .ok (.idiv, 1) := dk_108 (dk_at dksX9_reckon_0 4 rfl rfl)
theorem dX9_reckon_5 : decode cX9_reckon 5 = .ok (.istore 6, 2) := dk_54 6 (dk_at dksX9_reckon_0 5 rfl rfl)
theorem dX9_reckon_7 : decode cX9_reckon 7 = .ok (.iload 5, 2) := dk_21 5 (dk_at dksX9_reckon_0 7 rfl rfl)
theorem dX9_reckon_9 : decode cX9_reckon 9 = .ok (.bipush 8, 2) := dk_16 8 (dk_at dksX9_reckon_0 9 rfl rfl)
theorem dX9_reckon_11 : decode cX9_reckon 11 = .ok (.invokestatic 118, 3) := dk_184 0 118 (dk_at dksX9_reckon_0 11 rfl rfl)
theorem dX9_reckon_14 : decode cX9_reckon 14 = .ok (.istore 7, 2) := dk_54 7 (dk_at dksX9_reckon_0 14 rfl rfl)
theorem dX9_reckon_16 : decode cX9_reckon 16 = .ok (.iload_n 2, 1) := dk_28 (dk_at dksX9_reckon_0 16 rfl rfl)
theorem dX9_reckon_17 : decode cX9_reckon 17 = .ok (.tableswitch 176 0 6 #[43, 43, 78, 111, 144, 156, 168], 43) := by decide +kernel
theorem dX9_reckon_60 : decode cX9_reckon 60 = .ok (.aload_n 0, 1) := dk_42 (dk_at dksX9_reckon_2 0 rfl rfl)
theorem dX9_reckon_61 : decode cX9_reckon 61 = .ok (.aload_n 3, 1) := dk_45 (dk_at dksX9_reckon_2 1 rfl rfl)
theorem dX9_reckon_62 : decode cX9_reckon 62 = .ok (.aload 4, 2) := dk_25 4 (dk_at dksX9_reckon_2 2 rfl rfl)
theorem dX9_reckon_64 : decode cX9_reckon 64 = .ok (.invokevirtual 122, 3) := dk_182 0 122 (dk_at dksX9_reckon_2 4 rfl rfl)
theorem dX9_reckon_67 : decode cX9_reckon 67 = .ok (.aload_n 0, 1) := dk_42 (dk_at dksX9_reckon_2 7 rfl rfl)
theorem dX9_reckon_68 : decode cX9_reckon 68 = .ok (.getfield 10, 3) := dk_180 0 10 (dk_at dksX9_reckon_2 8 rfl rfl)
theorem dX9_reckon_71 : decode cX9_reckon 71 = .ok (.aload_n 0, 1) := dk_42 (dk_at dksX9_reckon_2 11 rfl rfl)
theorem dX9_reckon_72 : decode cX9_reckon 72 = .ok (.getfield 10, 3) := dk_180 0 10 (dk_at dksX9_reckon_2 12 rfl rfl)
theorem dX9_reckon_75 : decode cX9_reckon 75 = .ok (.aload_n 0, 1) := dk_42 (dk_at dksX9_reckon_2 15 rfl rfl)
theorem dX9_reckon_76 : decode cX9_reckon 76 = .ok (.getfield 16, 3) := dk_180 0 16 (dk_at dksX9_reckon_2 16 rfl rfl)
theorem dX9_reckon_79 : decode cX9_reckon 79 = .ok (.iload_n 2, 1) := dk_28 (dk_at dksX9_reckon_2 19 rfl rfl)
theorem dX9_reckon_80 : decode cX9_reckon 80 = .ok (.iconst 1, 1) := dk_4 (dk_at dksX9_reckon_2 20 rfl rfl)
theorem dX9_reckon_81 : decode cX9_reckon 81 = .ok (.if_icmp .ne 7, 3) := dk_160 0 7 (dk_at dksX9_reckon_2 21 rfl rfl)
theorem dX9_reckon_84 : decode cX9_reckon 84 = .ok (.iconst 1, 1) := dk_4 (dk_at dksX9_reckon_3 0 rfl rfl)
theorem dX9_reckon_85 : decode cX9_reckon 85 = .ok (.goto 4, 3) := dk_167 0 4 (dk_at dksX9_reckon_3 1 rfl rfl)
theorem dX9_reckon_88 : decode cX9_reckon 88 = .ok (.iconst 0, 1) := dk_3 (dk_at dksX9_reckon_3 4 rfl rfl)
theorem dX9_reckon_89 : decode cX9_reckon 89 = .ok (.invokevirtual 58, 3) := dk_182 0 58 (dk_at dksX9_reckon_3 5 rfl rfl)
theorem dX9_reckon_92 : decode cX9_reckon 92 = .ok (.goto 156, 3) := dk_167 0 156 (dk_at dksX9_reckon_3 8 rfl rfl)
theorem dX9_reckon_95 : decode cX9_reckon 95 = .ok (.aload_n 0, 1) := dk_42 (dk_at dksX9_reckon_3 11 rfl rfl)
theorem dX9_reckon_96 : decode cX9_reckon 96 = .ok (.aload_n 3, 1) := dk_45 (dk_at dksX9_reckon_3 12 rfl rfl)
theorem dX9_reckon_97 : decode cX9_reckon 97 = .ok (.getfield 41, 3) := dk_180 0 41 (dk_at dksX9_reckon_3 13 rfl rfl)
theorem dX9_reckon_100 : decode cX9_reckon 100 = .ok (.aload 4, 2) := dk_25 4 (dk_at dksX9_reckon_3 16 rfl rfl)
theorem dX9_reckon_102 : decode cX9_reckon 102 = .ok (.getfield 41, 3) := dk_180 0 41 (dk_at dksX9_reckon_3 18 rfl rfl)
theorem dX9_reckon_105 : decode cX9_reckon 105 = .ok (.iadd, 1) := dk_96 (dk_at dksX9_reckon_3 21 rfl rfl)
theorem dX9_reckon_106 : decode cX9_reckon 106 = .ok (.putfield 47, 3) := dk_181 0 47 (dk_at dksX9_reckon_4 0 rfl rfl)
theorem dX9_reckon_109 : decode cX9_reckon 109 = .ok (.aload_n 0, 1) := dk_42 (dk_at dksX9_reckon_4 3 rfl rfl)
theorem dX9_reckon_110 : decode cX9_reckon 110 = .ok (.getfield 10, 3) := dk_180 0 10 (dk_at dksX9_reckon_4 4 rfl rfl)
theorem dX9_reckon_113 : decode cX9_reckon 113 = .ok (.aload_n 3, 1) := dk_45 (dk_at dksX9_reckon_4 7 rfl rfl)
theorem dX9_reckon_114 : decode cX9_reckon 114 = .ok (.getfield 48, 3) := dk_180 0 48 (dk_at dksX9_reckon_4 8 rfl rfl)
theorem dX9_reckon_117 : decode cX9_reckon 117 = .ok (.aload 4, 2) := dk_25 4 (dk_at dksX9_reckon_4 11 rfl rfl)
theorem dX9_reckon_119 : decode cX9_reckon 119 = .ok (.getfield 48, 3) := dk_180 0 48 (dk_at dksX9_reckon_4 13 rfl rfl)
theorem dX9_reckon_122 : decode cX9_reckon 122 = .ok (.invokevirtual 37, 3) := dk_182 0 37 (dk_at dksX9_reckon_4 16 rfl rfl)
theorem dX9_reckon_125 : decode cX9_reckon 125 = .ok (.goto 123, 3) := dk_167 0 123 (dk_at dksX9_reckon_4 19 rfl rfl)
theorem dX9_reckon_128 : decode cX9_reckon 128 = .ok (.aload 4, 2) := dk_25 4 (dk_at dksX9_reckon_4 22 rfl rfl)
theorem dX9_reckon_130 : decode cX9_reckon 130 = .ok (.getfield 48, 3) := dk_180 0 48 (dk_at dksX9_reckon_5 0 rfl rfl)
theorem dX9_reckon_133 : decode cX9_reckon 133 = .ok (.invokevirtual 80, 3) := dk_182 0 80 (dk_at dksX9_reckon_5 3 rfl rfl)
theorem dX9_reckon_136 : decode cX9_reckon 136 = .ok (.ifCond .ne 7, 3) := dk_154 0 7 (dk_at dksX9_reckon_5 6 rfl rfl)
theorem dX9_reckon_139 : decode cX9_reckon 139 = .ok (.iconst 1, 1) := dk_4 (dk_at dksX9_reckon_5 9 rfl rfl)
theorem dX9_reckon_140 : decode cX9_reckon 140 = .ok (.goto 4, 3) := dk_167 0 4 (dk_at dksX9_reckon_5 10 rfl rfl)
theorem dX9_reckon_143 : decode cX9_reckon 143 = .ok (.iconst 0, 1) := dk_3 (dk_at dksX9_reckon_5 13 rfl rfl)
theorem dX9_reckon_144 : decode cX9_reckon 144 = .ok (.invokestatic 84, 3) := dk_184 0 84 (dk_at dksX9_reckon_5 14 rfl rfl)
theorem dX9_reckon_147 : decode cX9_reckon 147 = .ok (.aload_n 0, 1) := dk_42 (dk_at dksX9_reckon_5 17 rfl rfl)
theorem dX9_reckon_148 : decode cX9_reckon 148 = .ok (.aload_n 3, 1) := dk_45 (dk_at dksX9_reckon_5 18 rfl rfl)
theorem dX9_reckon_149 : decode cX9_reckon 149 = .ok (.aload 4, 2) := dk_25 4 (dk_at dksX9_reckon_5 19 rfl rfl)
theorem dX9_reckon_151 : decode cX9_reckon 151 = .ok (.iload 6, 2) := dk_21 6 (dk_at dksX9_reckon_5 21 rfl rfl)
theorem dX9_reckon_153 : decode cX9_reckon 153 = .ok (.iload 7, 2) := dk_21 7 (dk_at dksX9_reckon_6 0 rfl rfl)
theorem dX9_reckon_155 : decode cX9_reckon 155 = .ok (.invokevirtual 126, 3) := dk_182 0 126 (dk_at dksX9_reckon_6 2 rfl rfl)
theorem dX9_reckon_158 : decode cX9_reckon 158 = .ok (.goto 90, 3) := dk_167 0 90 (dk_at dksX9_reckon_6 5 rfl rfl)
theorem dX9_reckon_161 : decode cX9_reckon 161 = .ok (.aload_n 0, 1) := dk_42 (dk_at dksX9_reckon_6 8 rfl rfl)
theorem dX9_reckon_162 : decode cX9_reckon 162 = .ok (.aload_n 3, 1) := dk_45 (dk_at dksX9_reckon_6 9 rfl rfl)
theorem dX9_reckon_163 : decode cX9_reckon 163 = .ok (.iload 6, 2) := dk_21 6 (dk_at dksX9_reckon_6 10 rfl rfl)
theorem dX9_reckon_165 : decode cX9_reckon 165 = .ok (.iload 7, 2) := dk_21 7 (dk_at dksX9_reckon_6 12 rfl rfl)
theorem dX9_reckon_167 : decode cX9_reckon 167 = .ok (.invokevirtual 110, 3) := dk_182 0 110 (dk_at dksX9_reckon_6 14 rfl rfl)
theorem dX9_reckon_170 : decode cX9_reckon 170 = .ok (.goto 78, 3) := dk_167 0 78 (dk_at dksX9_reckon_6 17 rfl rfl)
theorem dX9_reckon_173 : decode cX9_reckon 173 = .ok (.aload_n 0, 1) := dk_42 (dk_at dksX9_reckon_6 20 rfl rfl)
theorem dX9_reckon_174 : decode cX9_reckon 174 = .ok (.aload_n 3, 1) := dk_45 (dk_at dksX9_reckon_6 21 rfl rfl)
theorem dX9_reckon_175 : decode cX9_reckon 175 = .ok (.iload 6, 2) := dk_21 6 (dk_at dksX9_reckon_6 22 rfl rfl)
theorem dX9_reckon_177 : decode cX9_reckon 177 = .ok (.iload 7, 2) := dk_21 7 (dk_at dksX9_reckon_7 0 rfl rfl)
theorem dX9_reckon_179 : decode cX9_reckon 179 = .ok (.invokevirtual 129, 3) := dk_182 0 129 (dk_at dksX9_reckon_7 2 rfl rfl)
theorem dX9_reckon_182 : decode cX9_reckon 182 = .ok (.goto 66, 3) := dk_167 0 66 (dk_at dksX9_reckon_7 5 rfl rfl)
theorem dX9_reckon_185 : decode cX9_reckon 185 = .ok (.aload_n 0, 1) := dk_42 (dk_at dksX9_reckon_7 8 rfl rfl)
theorem dX9_reckon_186 : decode cX9_reckon 186 = .ok (.aload_n 3, 1) := dk_45 (dk_at dksX9_reckon_7 9 rfl rfl)
theorem dX9_reckon_187 : decode cX9_reckon 187 = .ok (.invokevirtual 132, 3) := dk_182 0 132 (dk_at dksX9_reckon_7 10 rfl rfl)
theorem dX9_reckon_190 : decode cX9_reckon 190 = .ok (.goto 58, 3) := dk_167 0 58 (dk_at dksX9_reckon_7 13 rfl rfl)
theorem dX9_reckon_193 : decode cX9_reckon 193 = .ok (.aload 4, 2) := dk_25 4 (dk_at dksX9_reckon_7 16 rfl rfl)
theorem dX9_reckon_195 : decode cX9_reckon 195 = .ok (.getfield 48, 3) := dk_180 0 48 (dk_at dksX9_reckon_7 18 rfl rfl)
theorem dX9_reckon_198 : decode cX9_reckon 198 = .ok (.invokevirtual 80, 3) := dk_182 0 80 (dk_at dksX9_reckon_7 21 rfl rfl)
theorem dX9_reckon_201 : decode cX9_reckon 201 = .ok (.ifCond .ne 7, 3) := dk_154 0 7 (dk_at dksX9_reckon_8 0 rfl rfl)
theorem dX9_reckon_204 : decode cX9_reckon 204 = .ok (.iconst 1, 1) := dk_4 (dk_at dksX9_reckon_8 3 rfl rfl)
theorem dX9_reckon_205 : decode cX9_reckon 205 = .ok (.goto 4, 3) := dk_167 0 4 (dk_at dksX9_reckon_8 4 rfl rfl)
theorem dX9_reckon_208 : decode cX9_reckon 208 = .ok (.iconst 0, 1) := dk_3 (dk_at dksX9_reckon_8 7 rfl rfl)
theorem dX9_reckon_209 : decode cX9_reckon 209 = .ok (.invokestatic 84, 3) := dk_184 0 84 (dk_at dksX9_reckon_8 8 rfl rfl)
theorem dX9_reckon_212 : decode cX9_reckon 212 = .ok (.aload_n 0, 1) := dk_42 (dk_at dksX9_reckon_8 11 rfl rfl)
theorem dX9_reckon_213 : decode cX9_reckon 213 = .ok (.aload_n 3, 1) := dk_45 (dk_at dksX9_reckon_8 12 rfl rfl)
theorem dX9_reckon_214 : decode cX9_reckon 214 = .ok (.aload 4, 2) := dk_25 4 (dk_at dksX9_reckon_8 13 rfl rfl)
theorem dX9_reckon_216 : decode cX9_reckon 216 = .ok (.invokevirtual 122, 3) := dk_182 0 122 (dk_at dksX9_reckon_8 15 rfl rfl)
theorem dX9_reckon_219 : decode cX9_reckon 219 = .ok (.aload_n 0, 1) := dk_42 (dk_at dksX9_reckon_8 18 rfl rfl)
theorem dX9_reckon_220 : decode cX9_reckon 220 = .ok (.getfield 28, 3) := dk_180 0 28 (dk_at dksX9_reckon_8 19 rfl rfl)
theorem dX9_reckon_223 : decode cX9_reckon 223 = .ok (.aload_n 0, 1) := dk_42 (dk_at dksX9_reckon_8 22 rfl rfl)
theorem dX9_reckon_224 : decode cX9_reckon 224 = .ok (.getfield 10, 3) := dk_180 0 10 (dk_at dksX9_reckon_9 0 rfl rfl)
theorem dX9_reckon_227 : decode cX9_reckon 227 = .ok (.aload_n 0, 1) := dk_42 (dk_at dksX9_reckon_9 3 rfl rfl)
theorem dX9_reckon_228 : decode cX9_reckon 228 = .ok (.getfield 16, 3) := dk_180 0 16 (dk_at dksX9_reckon_9 4 rfl rfl)
theorem dX9_reckon_231 : decode cX9_reckon 231 = .ok (.invokevirtual 73, 3) := dk_182 0 73 (dk_at dksX9_reckon_9 7 rfl rfl)
theorem dX9_reckon_234 : decode cX9_reckon 234 = .ok (.aload_n 0, 1) := dk_42 (dk_at dksX9_reckon_9 10 rfl rfl)
theorem dX9_reckon_235 : decode cX9_reckon 235 = .ok (.getfield 10, 3) := dk_180 0 10 (dk_at dksX9_reckon_9 11 rfl rfl)
theorem dX9_reckon_238 : decode cX9_reckon 238 = .ok (.aload_n 0, 1) := dk_42 (dk_at dksX9_reckon_9 14 rfl rfl)
theorem dX9_reckon_239 : decode cX9_reckon 239 = .ok (.getfield 28, 3) := dk_180 0 28 (dk_at dksX9_reckon_9 15 rfl rfl)
theorem dX9_reckon_242 : decode cX9_reckon 242 = .ok (.getfield 55, 3) := dk_180 0 55 (dk_at dksX9_reckon_9 18 rfl rfl)
theorem dX9_reckon_245 : decode cX9_reckon 245 = .ok (.invokevirtual 100, 3) := dk_182 0 100 (dk_at dksX9_reckon_9 21 rfl rfl)
theorem dX9_reckon_248 : decode cX9_reckon 248 = .ok (.aload_n 0, 1) := dk_42 (dk_at dksX9_reckon_10 0 rfl rfl)
theorem dX9_reckon_249 : decode cX9_reckon 249 = .ok (.getfield 47, 3) := dk_180 0 47 (dk_at dksX9_reckon_10 1 rfl rfl)
theorem dX9_reckon_252 : decode cX9_reckon 252 = .ok (.sipush (-200), 3) := dk_17 255 56 (dk_at dksX9_reckon_10 4 rfl rfl)
theorem dX9_reckon_255 : decode cX9_reckon 255 = .ok (.if_icmp .lt 34, 3) := dk_161 0 34 (dk_at dksX9_reckon_10 7 rfl rfl)
theorem dX9_reckon_258 : decode cX9_reckon 258 = .ok (.aload_n 0, 1) := dk_42 (dk_at dksX9_reckon_10 10 rfl rfl)
theorem dX9_reckon_259 : decode cX9_reckon 259 = .ok (.getfield 47, 3) := dk_180 0 47 (dk_at dksX9_reckon_10 11 rfl rfl)
theorem dX9_reckon_262 : decode cX9_reckon 262 = .ok (.sipush 200, 3) := dk_17 0 200 (dk_at dksX9_reckon_10 14 rfl rfl)
theorem dX9_reckon_265 : decode cX9_reckon 265 = .ok (.if_icmp .gt 24, 3) := dk_163 0 24 (dk_at dksX9_reckon_10 17 rfl rfl)
theorem dX9_reckon_268 : decode cX9_reckon 268 = .ok (.aload_n 0, 1) := dk_42 (dk_at dksX9_reckon_10 20 rfl rfl)
theorem dX9_reckon_269 : decode cX9_reckon 269 = .ok (.getfield 28, 3) := dk_180 0 28 (dk_at dksX9_reckon_10 21 rfl rfl)
theorem dX9_reckon_272 : decode cX9_reckon 272 = .ok (.aload_n 0, 1) := dk_42 (dk_at dksX9_reckon_11 0 rfl rfl)
theorem dX9_reckon_273 : decode cX9_reckon 273 = .ok (.getfield 10, 3) := dk_180 0 10 (dk_at dksX9_reckon_11 1 rfl rfl)
theorem dX9_reckon_276 : decode cX9_reckon 276 = .ok (.invokevirtual 106, 3) := dk_182 0 106 (dk_at dksX9_reckon_11 4 rfl rfl)
theorem dX9_reckon_279 : decode cX9_reckon 279 = .ok (.sipush 300, 3) := dk_17 1 44 (dk_at dksX9_reckon_11 7 rfl rfl)
theorem dX9_reckon_282 : decode cX9_reckon 282 = .ok (.if_icmp .gt 7, 3) := dk_163 0 7 (dk_at dksX9_reckon_11 10 rfl rfl)
theorem dX9_reckon_285 : decode cX9_reckon 285 = .ok (.iconst 1, 1) := dk_4 (dk_at dksX9_reckon_11 13 rfl rfl)
theorem dX9_reckon_286 : decode cX9_reckon 286 = .ok (.goto 4, 3) := dk_167 0 4 (dk_at dksX9_reckon_11 14 rfl rfl)
theorem dX9_reckon_289 : decode cX9_reckon 289 = .ok (.iconst 0, 1) := dk_3 (dk_at dksX9_reckon_11 17 rfl rfl)
theorem dX9_reckon_290 : decode cX9_reckon 290 = .ok (.invokestatic 84, 3) := dk_184 0 84 (dk_at dksX9_reckon_11 18 rfl rfl)
theorem dX9_reckon_293 : decode cX9_reckon 293 = .ok (.aload_n 1, 1) := dk_43 (dk_at dksX9_reckon_11 21 rfl rfl)
theorem dX9_reckon_294 : decode cX9_reckon 294 = .ok (.getfield 48, 3) := dk_180 0 48 (dk_at dksX9_reckon_12 0 rfl rfl)
theorem dX9_reckon_297 : decode cX9_reckon 297 = .ok (.aload_n 0, 1) := dk_42 (dk_at dksX9_reckon_12 3 rfl rfl)
theorem dX9_reckon_298 : decode cX9_reckon 298 = .ok (.getfield 10, 3) := dk_180 0 10 (dk_at dksX9_reckon_12 4 rfl rfl)
theorem dX9_reckon_301 : decode cX9_reckon 301 = .ok (.invokevirtual 100, 3) := dk_182 0 100 (dk_at dksX9_reckon_12 7 rfl rfl)
theorem dX9_reckon_304 : decode cX9_reckon 304 = .ok (.aload_n 1, 1) := dk_43 (dk_at dksX9_reckon_12 10 rfl rfl)
theorem dX9_reckon_305 : decode cX9_reckon 305 = .ok (.aload_n 0, 1) := dk_42 (dk_at dksX9_reckon_12 11 rfl rfl)
theorem dX9_reckon_306 : decode cX9_reckon 306 = .ok (.getfield 47, 3) := dk_180 0 47 (dk_at dksX9_reckon_12 12 rfl rfl)
theorem dX9_reckon_309 : decode cX9_reckon 309 = .ok (.putfield 41, 3) := dk_181 0 41 (dk_at dksX9_reckon_12 15 rfl rfl)
theorem dX9_reckon_312 : decode cX9_reckon 312 = .ok (.return_, 1) := dk_177 (dk_at dksX9_reckon_12 18 rfl rfl)
abbrev cX9_align : ByteArray := prog_8_method_3_code
def yX9_align : MethodName := ⟨RX9, "align", "(LLibraryDesk$DecimalThing;LLibraryDesk$DecimalThing;)V"⟩
def dkwX9_align_2 : List UInt8 := [42, 42, 180, 0, 16, 44, 180, 0, 48, 42, 180, 0, 47, 44, 180, 0, 41, 100, 182, 0, 51, 177]
abbrev dktX9_align_2 : List UInt8 := dkwX9_align_2 ++ []
def dkwX9_align_1 : List UInt8 := [181, 0, 47, 42, 42, 180, 0, 10, 43, 180, 0, 48, 42, 180, 0, 47, 43, 180, 0, 41, 100, 182, 0, 51]
abbrev dktX9_align_1 : List UInt8 := dkwX9_align_1 ++ dktX9_align_2
def dkwX9_align_0 : List UInt8 := [42, 43, 180, 0, 41, 44, 180, 0, 41, 164, 0, 10, 43, 180, 0, 41, 167, 0, 7, 44, 180, 0, 41]
abbrev dktX9_align_0 : List UInt8 := dkwX9_align_0 ++ dktX9_align_1
theorem dksX9_align_0 : cX9_align.data.toList.drop 0 = dktX9_align_0 := by decide +kernel
theorem dksX9_align_1 : cX9_align.data.toList.drop 23 = dktX9_align_1 := dk_seg dksX9_align_0 23 rfl rfl
theorem dksX9_align_2 : cX9_align.data.toList.drop 47 = dktX9_align_2 := dk_seg dksX9_align_1 24 rfl rfl
theorem dX9_align_0 : decode cX9_align 0 = .ok (.aload_n 0, 1) := dk_42 (dk_at dksX9_align_0 0 rfl rfl)
theorem dX9_align_1 : decode cX9_align 1 = .ok (.aload_n 1, 1) := dk_43 (dk_at dksX9_align_0 1 rfl rfl)
theorem dX9_align_2 : decode cX9_align 2 = .ok (.getfield 41, 3) := dk_180 0 41 (dk_at dksX9_align_0 2 rfl rfl)
theorem dX9_align_5 : decode cX9_align 5 = .ok (.aload_n 2, 1) := dk_44 (dk_at dksX9_align_0 5 rfl rfl)
theorem dX9_align_6 : decode cX9_align 6 = .ok (.getfield 41, 3) := dk_180 0 41 (dk_at dksX9_align_0 6 rfl rfl)
theorem dX9_align_9 : decode cX9_align 9 = .ok (.if_icmp .le 10, 3) := dk_164 0 10 (dk_at dksX9_align_0 9 rfl rfl)
theorem dX9_align_12 : decode cX9_align 12 = .ok (.aload_n 1, 1) := dk_43 (dk_at dksX9_align_0 12 rfl rfl)
theorem dX9_align_13 : decode cX9_align 13 = .ok (.getfield 41, 3) := dk_180 0 41 (dk_at dksX9_align_0 13 rfl rfl)
theorem dX9_align_16 : decode cX9_align 16 = .ok (.goto 7, 3) := dk_167 0 7 (dk_at dksX9_align_0 16 rfl rfl)
theorem dX9_align_19 : decode cX9_align 19 = .ok (.aload_n 2, 1) := dk_44 (dk_at dksX9_align_0 19 rfl rfl)
theorem dX9_align_20 : decode cX9_align 20 = .ok (.getfield 41, 3) := dk_180 0 41 (dk_at dksX9_align_0 20 rfl rfl)
theorem dX9_align_23 : decode cX9_align 23 = .ok (.putfield 47, 3) := dk_181 0 47 (dk_at dksX9_align_1 0 rfl rfl)
theorem dX9_align_26 : decode cX9_align 26 = .ok (.aload_n 0, 1) := dk_42 (dk_at dksX9_align_1 3 rfl rfl)
theorem dX9_align_27 : decode cX9_align 27 = .ok (.aload_n 0, 1) := dk_42 (dk_at dksX9_align_1 4 rfl rfl)
theorem dX9_align_28 : decode cX9_align 28 = .ok (.getfield 10, 3) := dk_180 0 10 (dk_at dksX9_align_1 5 rfl rfl)
theorem dX9_align_31 : decode cX9_align 31 = .ok (.aload_n 1, 1) := dk_43 (dk_at dksX9_align_1 8 rfl rfl)
theorem dX9_align_32 : decode cX9_align 32 = .ok (.getfield 48, 3) := dk_180 0 48 (dk_at dksX9_align_1 9 rfl rfl)
theorem dX9_align_35 : decode cX9_align 35 = .ok (.aload_n 0, 1) := dk_42 (dk_at dksX9_align_1 12 rfl rfl)
theorem dX9_align_36 : decode cX9_align 36 = .ok (.getfield 47, 3) := dk_180 0 47 (dk_at dksX9_align_1 13 rfl rfl)
theorem dX9_align_39 : decode cX9_align 39 = .ok (.aload_n 1, 1) := dk_43 (dk_at dksX9_align_1 16 rfl rfl)
theorem dX9_align_40 : decode cX9_align 40 = .ok (.getfield 41, 3) := dk_180 0 41 (dk_at dksX9_align_1 17 rfl rfl)
theorem dX9_align_43 : decode cX9_align 43 = .ok (.isub, 1) := dk_100 (dk_at dksX9_align_1 20 rfl rfl)
theorem dX9_align_44 : decode cX9_align 44 = .ok (.invokevirtual 51, 3) := dk_182 0 51 (dk_at dksX9_align_1 21 rfl rfl)
theorem dX9_align_47 : decode cX9_align 47 = .ok (.aload_n 0, 1) := dk_42 (dk_at dksX9_align_2 0 rfl rfl)
theorem dX9_align_48 : decode cX9_align 48 = .ok (.aload_n 0, 1) := dk_42 (dk_at dksX9_align_2 1 rfl rfl)
theorem dX9_align_49 : decode cX9_align 49 = .ok (.getfield 16, 3) := dk_180 0 16 (dk_at dksX9_align_2 2 rfl rfl)
theorem dX9_align_52 : decode cX9_align 52 = .ok (.aload_n 2, 1) := dk_44 (dk_at dksX9_align_2 5 rfl rfl)
theorem dX9_align_53 : decode cX9_align 53 = .ok (.getfield 48, 3) := dk_180 0 48 (dk_at dksX9_align_2 6 rfl rfl)
theorem dX9_align_56 : decode cX9_align 56 = .ok (.aload_n 0, 1) := dk_42 (dk_at dksX9_align_2 9 rfl rfl)
theorem dX9_align_57 : decode cX9_align 57 = .ok (.getfield 47, 3) := dk_180 0 47 (dk_at dksX9_align_2 10 rfl rfl)
theorem dX9_align_60 : decode cX9_align 60 = .ok (.aload_n 2, 1) := dk_44 (dk_at dksX9_align_2 13 rfl rfl)
theorem dX9_align_61 : decode cX9_align 61 = .ok (.getfield 41, 3) := dk_180 0 41 (dk_at dksX9_align_2 14 rfl rfl)
theorem dX9_align_64 : decode cX9_align 64 = .ok (.isub, 1) := dk_100 (dk_at dksX9_align_2 17 rfl rfl)
theorem dX9_align_65 : decode cX9_align 65 = .ok (.invokevirtual 51, 3) := dk_182 0 51 (dk_at dksX9_align_2 18 rfl rfl)
theorem dX9_align_68 : decode cX9_align 68 = .ok (.return_, 1) := dk_177 (dk_at dksX9_align_2 21 rfl rfl)
abbrev cX9_raise : ByteArray := prog_8_method_2_code
def yX9_raise : MethodName := ⟨RX9, "raise", "(LLibraryDesk$Big;LLibraryDesk$Big;I)V"⟩
def dkwX9_raise_0 : List UInt8 := [42, 180, 0, 28, 42, 180, 0, 22, 29, 182, 0, 32, 43, 44, 42, 180, 0, 22, 182, 0, 37, 177]
abbrev dktX9_raise_0 : List UInt8 := dkwX9_raise_0 ++ []
theorem dksX9_raise_0 : cX9_raise.data.toList.drop 0 = dktX9_raise_0 := by decide +kernel
theorem dX9_raise_0 : decode cX9_raise 0 = .ok (.aload_n 0, 1) := dk_42 (dk_at dksX9_raise_0 0 rfl rfl)
theorem dX9_raise_1 : decode cX9_raise 1 = .ok (.getfield 28, 3) := dk_180 0 28 (dk_at dksX9_raise_0 1 rfl rfl)
theorem dX9_raise_4 : decode cX9_raise 4 = .ok (.aload_n 0, 1) := dk_42 (dk_at dksX9_raise_0 4 rfl rfl)
theorem dX9_raise_5 : decode cX9_raise 5 = .ok (.getfield 22, 3) := dk_180 0 22 (dk_at dksX9_raise_0 5 rfl rfl)
theorem dX9_raise_8 : decode cX9_raise 8 = .ok (.iload_n 3, 1) := dk_29 (dk_at dksX9_raise_0 8 rfl rfl)
theorem dX9_raise_9 : decode cX9_raise 9 = .ok (.invokevirtual 32, 3) := dk_182 0 32 (dk_at dksX9_raise_0 9 rfl rfl)
theorem dX9_raise_12 : decode cX9_raise 12 = .ok (.aload_n 1, 1) := dk_43 (dk_at dksX9_raise_0 12 rfl rfl)
theorem dX9_raise_13 : decode cX9_raise 13 = .ok (.aload_n 2, 1) := dk_44 (dk_at dksX9_raise_0 13 rfl rfl)
theorem dX9_raise_14 : decode cX9_raise 14 = .ok (.aload_n 0, 1) := dk_42 (dk_at dksX9_raise_0 14 rfl rfl)
theorem dX9_raise_15 : decode cX9_raise 15 = .ok (.getfield 22, 3) := dk_180 0 22 (dk_at dksX9_raise_0 15 rfl rfl)
theorem dX9_raise_18 : decode cX9_raise 18 = .ok (.invokevirtual 37, 3) := dk_182 0 37 (dk_at dksX9_raise_0 18 rfl rfl)
theorem dX9_raise_21 : decode cX9_raise 21 = .ok (.return_, 1) := dk_177 (dk_at dksX9_raise_0 21 rfl rfl)
abbrev cX9_over : ByteArray := prog_8_method_7_code
def yX9_over : MethodName := ⟨RX9, "ove\x72", "(LLibraryDesk$DecimalThing;LLibraryDesk$DecimalThing;II)V"⟩
def dkwX9_over_3 : List UInt8 := [180, 0, 48, 42, 180, 0, 16, 21, 4, 182, 0, 103, 177]
abbrev dktX9_over_3 : List UInt8 := dkwX9_over_3 ++ []
def dkwX9_over_2 : List UInt8 := [182, 0, 103, 167, 0, 32, 42, 42, 180, 0, 16, 44, 180, 0, 48, 21, 5, 116, 182, 0, 51, 42, 43]
abbrev dktX9_over_2 : List UInt8 := dkwX9_over_2 ++ dktX9_over_3
def dkwX9_over_1 : List UInt8 := [42, 180, 0, 16, 43, 180, 0, 48, 21, 5, 182, 0, 51, 42, 42, 180, 0, 16, 44, 180, 0, 48, 21, 4]
abbrev dktX9_over_1 : List UInt8 := dkwX9_over_1 ++ dktX9_over_2
def dkwX9_over_0 : List UInt8 := [29, 44, 180, 0, 41, 96, 43, 180, 0, 41, 100, 54, 5, 42, 29, 181, 0, 47, 21, 5, 155, 0, 34, 42]
abbrev dktX9_over_0 : List UInt8 := dkwX9_over_0 ++ dktX9_over_1
theorem dksX9_over_0 : cX9_over.data.toList.drop 0 = dktX9_over_0 := by decide +kernel
theorem dksX9_over_1 : cX9_over.data.toList.drop 24 = dktX9_over_1 := dk_seg dksX9_over_0 24 rfl rfl
theorem dksX9_over_2 : cX9_over.data.toList.drop 48 = dktX9_over_2 := dk_seg dksX9_over_1 24 rfl rfl
theorem dksX9_over_3 : cX9_over.data.toList.drop 71 = dktX9_over_3 := dk_seg dksX9_over_2 23 rfl rfl
theorem dX9_over_0 : decode cX9_over 0 = .ok (.iload_n 3, 1) := dk_29 (dk_at dksX9_over_0 0 rfl rfl)
theorem dX9_over_1 : decode cX9_over 1 = .ok (.aload_n 2, 1) := dk_44 (dk_at dksX9_over_0 1 rfl rfl)
theorem dX9_over_2 : decode cX9_over 2 = .ok (.getfield 41, 3) := dk_180 0 41 (dk_at dksX9_over_0 2 rfl rfl)
theorem dX9_over_5 : decode cX9_over 5 = .ok (.iadd, 1) := dk_96 (dk_at dksX9_over_0 5 rfl rfl)
theorem dX9_over_6 : decode cX9_over 6 = .ok (.aload_n 1, 1) := dk_43 (dk_at dksX9_over_0 6 rfl rfl)
theorem dX9_over_7 : decode cX9_over 7 = .ok (.getfield 41, 3) := dk_180 0 41 (dk_at dksX9_over_0 7 rfl rfl)
theorem dX9_over_10 : decode cX9_over 10 = .ok (.isub, 1) := dk_100 (dk_at dksX9_over_0 10 rfl rfl)
theorem dX9_over_11 : decode cX9_over 11 = .ok (.istore 5, 2) := dk_54 5 (dk_at dksX9_over_0 11 rfl rfl)
theorem dX9_over_13 : decode cX9_over 13 = .ok (.aload_n 0, 1) := dk_42 (dk_at dksX9_over_0 13 rfl rfl)
theorem dX9_over_14 : decode cX9_over 14 = .ok (.iload_n 3, 1) := dk_29 (dk_at dksX9_over_0 14 rfl rfl)
theorem dX9_over_15 : decode cX9_over 15 = .ok (.putfield 47, 3) := dk_181 0 47 (dk_at dksX9_over_0 15 rfl rfl)
theorem dX9_over_18 : decode cX9_over 18 = .ok (.iload 5, 2) := dk_21 5 (dk_at dksX9_over_0 18 rfl rfl)
theorem dX9_over_20 : decode cX9_over 20 = .ok (.ifCond .lt 34, 3) := dk_155 0 34 (dk_at dksX9_over_0 20 rfl rfl)
theorem dX9_over_23 : decode cX9_over 23 = .ok (.aload_n 0, 1) := dk_42 (dk_at dksX9_over_0 23 rfl rfl)
theorem dX9_over_24 : decode cX9_over 24 = .ok (.aload_n 0, 1) := dk_42 (dk_at dksX9_over_1 0 rfl rfl)
theorem dX9_over_25 : decode cX9_over 25 = .ok (.getfield 16, 3) := dk_180 0 16 (dk_at dksX9_over_1 1 rfl rfl)
theorem dX9_over_28 : decode cX9_over 28 = .ok (.aload_n 1, 1) := dk_43 (dk_at dksX9_over_1 4 rfl rfl)
theorem dX9_over_29 : decode cX9_over 29 = .ok (.getfield 48, 3) := dk_180 0 48 (dk_at dksX9_over_1 5 rfl rfl)
theorem dX9_over_32 : decode cX9_over 32 = .ok (.iload 5, 2) := dk_21 5 (dk_at dksX9_over_1 8 rfl rfl)
theorem dX9_over_34 : decode cX9_over 34 = .ok (.invokevirtual 51, 3) := dk_182 0 51 (dk_at dksX9_over_1 10 rfl rfl)
theorem dX9_over_37 : decode cX9_over 37 = .ok (.aload_n 0, 1) := dk_42 (dk_at dksX9_over_1 13 rfl rfl)
theorem dX9_over_38 : decode cX9_over 38 = .ok (.aload_n 0, 1) := dk_42 (dk_at dksX9_over_1 14 rfl rfl)
theorem dX9_over_39 : decode cX9_over 39 = .ok (.getfield 16, 3) := dk_180 0 16 (dk_at dksX9_over_1 15 rfl rfl)
theorem dX9_over_42 : decode cX9_over 42 = .ok (.aload_n 2, 1) := dk_44 (dk_at dksX9_over_1 18 rfl rfl)
theorem dX9_over_43 : decode cX9_over 43 = .ok (.getfield 48, 3) := dk_180 0 48 (dk_at dksX9_over_1 19 rfl rfl)
theorem dX9_over_46 : decode cX9_over 46 = .ok (.iload 4, 2) := dk_21 4 (dk_at dksX9_over_1 22 rfl rfl)
theorem dX9_over_48 : decode cX9_over 48 = .ok (.invokevirtual 103, 3) := dk_182 0 103 (dk_at dksX9_over_2 0 rfl rfl)
theorem dX9_over_51 : decode cX9_over 51 = .ok (.goto 32, 3) := dk_167 0 32 (dk_at dksX9_over_2 3 rfl rfl)
theorem dX9_over_54 : decode cX9_over 54 = .ok (.aload_n 0, 1) := dk_42 (dk_at dksX9_over_2 6 rfl rfl)
theorem dX9_over_55 : decode cX9_over 55 = .ok (.aload_n 0, 1) := dk_42 (dk_at dksX9_over_2 7 rfl rfl)
theorem dX9_over_56 : decode cX9_over 56 = .ok (.getfield 16, 3) := dk_180 0 16 (dk_at dksX9_over_2 8 rfl rfl)
theorem dX9_over_59 : decode cX9_over 59 = .ok (.aload_n 2, 1) := dk_44 (dk_at dksX9_over_2 11 rfl rfl)
theorem dX9_over_60 : decode cX9_over 60 = .ok (.getfield 48, 3) := dk_180 0 48 (dk_at dksX9_over_2 12 rfl rfl)
theorem dX9_over_63 : decode cX9_over 63 = .ok (.iload 5, 2) := dk_21 5 (dk_at dksX9_over_2 15 rfl rfl)
theorem dX9_over_65 : decode cX9_over 65 = .ok (.ineg, 1) := dk_116 (dk_at dksX9_over_2 17 rfl rfl)
theorem dX9_over_66 : decode cX9_over 66 = .ok (.invokevirtual 51, 3) := dk_182 0 51 (dk_at dksX9_over_2 18 rfl rfl)
theorem dX9_over_69 : decode cX9_over 69 = .ok (.aload_n 0, 1) := dk_42 (dk_at dksX9_over_2 21 rfl rfl)
theorem dX9_over_70 : decode cX9_over 70 = .ok (.aload_n 1, 1) := dk_43 (dk_at dksX9_over_2 22 rfl rfl)
theorem dX9_over_71 : decode cX9_over 71 = .ok (.getfield 48, 3) := dk_180 0 48 (dk_at dksX9_over_3 0 rfl rfl)
theorem dX9_over_74 : decode cX9_over 74 = .ok (.aload_n 0, 1) := dk_42 (dk_at dksX9_over_3 3 rfl rfl)
theorem dX9_over_75 : decode cX9_over 75 = .ok (.getfield 16, 3) := dk_180 0 16 (dk_at dksX9_over_3 4 rfl rfl)
theorem dX9_over_78 : decode cX9_over 78 = .ok (.iload 4, 2) := dk_21 4 (dk_at dksX9_over_3 7 rfl rfl)
theorem dX9_over_80 : decode cX9_over 80 = .ok (.invokevirtual 103, 3) := dk_182 0 103 (dk_at dksX9_over_3 9 rfl rfl)
theorem dX9_over_83 : decode cX9_over 83 = .ok (.return_, 1) := dk_177 (dk_at dksX9_over_3 12 rfl rfl)
abbrev cX9_round : ByteArray := prog_8_method_5_code
def yX9_round : MethodName := ⟨RX9, "round", "(LLibraryDesk$Big;LLibraryDesk$Big;I)V"⟩
def dkwX9_round_4 : List UInt8 := [42, 180, 0, 25, 3, 182, 0, 58, 177, 42, 180, 0, 10, 42, 180, 0, 28, 180, 0, 66, 182, 0, 100, 177]
abbrev dktX9_round_4 : List UInt8 := dkwX9_round_4 ++ []
def dkwX9_round_3 : List UInt8 := [153, 0, 9, 20, 0, 94, 167, 0, 4, 10, 182, 0, 96, 42, 180, 0, 10, 42, 180, 0, 28, 180, 0, 66]
abbrev dktX9_round_3 : List UInt8 := dkwX9_round_3 ++ dktX9_round_4
def dkwX9_round_2 : List UInt8 := [167, 0, 4, 3, 184, 0, 84, 42, 29, 21, 4, 44, 182, 0, 90, 153, 0, 42, 42, 180, 0, 25, 21, 4]
abbrev dktX9_round_2 : List UInt8 := dkwX9_round_2 ++ dktX9_round_3
def dkwX9_round_1 : List UInt8 := [3, 54, 4, 42, 180, 0, 28, 180, 0, 55, 182, 0, 80, 154, 0, 67, 29, 16, 7, 159, 0, 7, 4]
abbrev dktX9_round_1 : List UInt8 := dkwX9_round_1 ++ dktX9_round_2
def dkwX9_round_0 : List UInt8 := [42, 180, 0, 28, 43, 44, 182, 0, 73, 43, 180, 0, 76, 44, 180, 0, 76, 159, 0, 7, 4, 167, 0, 4]
abbrev dktX9_round_0 : List UInt8 := dkwX9_round_0 ++ dktX9_round_1
theorem dksX9_round_0 : cX9_round.data.toList.drop 0 = dktX9_round_0 := by decide +kernel
theorem dksX9_round_1 : cX9_round.data.toList.drop 24 = dktX9_round_1 := dk_seg dksX9_round_0 24 rfl rfl
theorem dksX9_round_2 : cX9_round.data.toList.drop 47 = dktX9_round_2 := dk_seg dksX9_round_1 23 rfl rfl
theorem dksX9_round_3 : cX9_round.data.toList.drop 71 = dktX9_round_3 := dk_seg dksX9_round_2 24 rfl rfl
theorem dksX9_round_4 : cX9_round.data.toList.drop 95 = dktX9_round_4 := dk_seg dksX9_round_3 24 rfl rfl
theorem dX9_round_0 : decode cX9_round 0 = .ok (.aload_n 0, 1) := dk_42 (dk_at dksX9_round_0 0 rfl rfl)
theorem dX9_round_1 : decode cX9_round 1 = .ok (.getfield 28, 3) := dk_180 0 28 (dk_at dksX9_round_0 1 rfl rfl)
theorem dX9_round_4 : decode cX9_round 4 = .ok (.aload_n 1, 1) := dk_43 (dk_at dksX9_round_0 4 rfl rfl)
theorem dX9_round_5 : decode cX9_round 5 = .ok (.aload_n 2, 1) := dk_44 (dk_at dksX9_round_0 5 rfl rfl)
theorem dX9_round_6 : decode cX9_round 6 = .ok (.invokevirtual 73, 3) := dk_182 0 73 (dk_at dksX9_round_0 6 rfl rfl)
theorem dX9_round_9 : decode cX9_round 9 = .ok (.aload_n 1, 1) := dk_43 (dk_at dksX9_round_0 9 rfl rfl)
theorem dX9_round_10 : decode cX9_round 10 = .ok (.getfield 76, 3) := dk_180 0 76 (dk_at dksX9_round_0 10 rfl rfl)
theorem dX9_round_13 : decode cX9_round 13 = .ok (.aload_n 2, 1) := dk_44 (dk_at dksX9_round_0 13 rfl rfl)
theorem dX9_round_14 : decode cX9_round 14 = .ok (.getfield 76, 3) := dk_180 0 76 (dk_at dksX9_round_0 14 rfl rfl)
theorem dX9_round_17 : decode cX9_round 17 = .ok (.if_icmp .eq 7, 3) := dk_159 0 7 (dk_at dksX9_round_0 17 rfl rfl)
theorem dX9_round_20 : decode cX9_round 20 = .ok (.iconst 1, 1) := dk_4 (dk_at dksX9_round_0 20 rfl rfl)
theorem dX9_round_21 : decode cX9_round 21 = .ok (.goto 4, 3) := dk_167 0 4 (dk_at dksX9_round_0 21 rfl rfl)
theorem dX9_round_24 : decode cX9_round 24 = .ok (.iconst 0, 1) := dk_3 (dk_at dksX9_round_1 0 rfl rfl)
theorem dX9_round_25 : decode cX9_round 25 = .ok (.istore 4, 2) := dk_54 4 (dk_at dksX9_round_1 1 rfl rfl)
theorem dX9_round_27 : decode cX9_round 27 = .ok (.aload_n 0, 1) := dk_42 (dk_at dksX9_round_1 3 rfl rfl)
theorem dX9_round_28 : decode cX9_round 28 = .ok (.getfield 28, 3) := dk_180 0 28 (dk_at dksX9_round_1 4 rfl rfl)
theorem dX9_round_31 : decode cX9_round 31 = .ok (.getfield 55, 3) := dk_180 0 55 (dk_at dksX9_round_1 7 rfl rfl)
theorem dX9_round_34 : decode cX9_round 34 = .ok (.invokevirtual 80, 3) := dk_182 0 80 (dk_at dksX9_round_1 10 rfl rfl)
theorem dX9_round_37 : decode cX9_round 37 = .ok (.ifCond .ne 67, 3) := dk_154 0 67 (dk_at dksX9_round_1 13 rfl rfl)
theorem dX9_round_40 : decode cX9_round 40 = .ok (.iload_n 3, 1) := dk_29 (dk_at dksX9_round_1 16 rfl rfl)
theorem dX9_round_41 : decode cX9_round 41 = .ok (.bipush 7, 2) := dk_16 7 (dk_at dksX9_round_1 17 rfl rfl)
theorem dX9_round_43 : decode cX9_round 43 = .ok (.if_icmp .eq 7, 3) := dk_159 0 7 (dk_at dksX9_round_1 19 rfl rfl)
theorem dX9_round_46 : decode cX9_round 46 = .ok (.iconst 1, 1) := dk_4 (dk_at dksX9_round_1 22 rfl rfl)
theorem dX9_round_47 : decode cX9_round 47 = .ok (.goto 4, 3) := dk_167 0 4 (dk_at dksX9_round_2 0 rfl rfl)
theorem dX9_round_50 : decode cX9_round 50 = .ok (.iconst 0, 1) := dk_3 (dk_at dksX9_round_2 3 rfl rfl)
theorem dX9_round_51 : decode cX9_round 51 = .ok (.invokestatic 84, 3) := dk_184 0 84 (dk_at dksX9_round_2 4 rfl rfl)
theorem dX9_round_54 : decode cX9_round 54 = .ok (.aload_n 0, 1) := dk_42 (dk_at dksX9_round_2 7 rfl rfl)
theorem dX9_round_55 : decode cX9_round 55 = .ok (.iload_n 3, 1) := dk_29 (dk_at dksX9_round_2 8 rfl rfl)
theorem dX9_round_56 : decode cX9_round 56 = .ok (.iload 4, 2) := dk_21 4 (dk_at dksX9_round_2 9 rfl rfl)
theorem dX9_round_58 : decode cX9_round 58 = .ok (.aload_n 2, 1) := dk_44 (dk_at dksX9_round_2 11 rfl rfl)
theorem dX9_round_59 : decode cX9_round 59 = .ok (.invokevirtual 90, 3) := dk_182 0 90 (dk_at dksX9_round_2 12 rfl rfl)
theorem dX9_round_62 : decode cX9_round 62 = .ok (.ifCond .eq 42, 3) := dk_153 0 42 (dk_at dksX9_round_2 15 rfl rfl)
theorem dX9_round_65 : decode cX9_round 65 = .ok (.aload_n 0, 1) := dk_42 (dk_at dksX9_round_2 18 rfl rfl)
theorem dX9_round_66 : decode cX9_round 66 = .ok (.getfield 25, 3) := dk_180 0 25 (dk_at dksX9_round_2 19 rfl rfl)
theorem dX9_round_69 : decode cX9_round 69 = .ok (.iload 4, 2) := dk_21 4 (dk_at dksX9_round_2 22 rfl rfl)
theorem dX9_round_71 : decode cX9_round 71 = .ok (.ifCond .eq 9, 3) := dk_153 0 9 (dk_at dksX9_round_3 0 rfl rfl)
theorem dX9_round_74 : decode cX9_round 74 = .ok (.ldc2_w 94, 3) := dk_20 0 94 (dk_at dksX9_round_3 3 rfl rfl)
theorem dX9_round_77 : decode cX9_round 77 = .ok (.goto 4, 3) := dk_167 0 4 (dk_at dksX9_round_3 6 rfl rfl)
theorem dX9_round_80 : decode cX9_round 80 = .ok (.lconst 1, 1) := dk_10 (dk_at dksX9_round_3 9 rfl rfl)
theorem dX9_round_81 : decode cX9_round 81 = .ok (.invokevirtual 96, 3) := dk_182 0 96 (dk_at dksX9_round_3 10 rfl rfl)
theorem dX9_round_84 : decode cX9_round 84 = .ok (.aload_n 0, 1) := dk_42 (dk_at dksX9_round_3 13 rfl rfl)
theorem dX9_round_85 : decode cX9_round 85 = .ok (.getfield 10, 3) := dk_180 0 10 (dk_at dksX9_round_3 14 rfl rfl)
theorem dX9_round_88 : decode cX9_round 88 = .ok (.aload_n 0, 1) := dk_42 (dk_at dksX9_round_3 17 rfl rfl)
theorem dX9_round_89 : decode cX9_round 89 = .ok (.getfield 28, 3) := dk_180 0 28 (dk_at dksX9_round_3 18 rfl rfl)
theorem dX9_round_92 : decode cX9_round 92 = .ok (.getfield 66, 3) := dk_180 0 66 (dk_at dksX9_round_3 21 rfl rfl)
theorem dX9_round_95 : decode cX9_round 95 = .ok (.aload_n 0, 1) := dk_42 (dk_at dksX9_round_4 0 rfl rfl)
theorem dX9_round_96 : decode cX9_round 96 = .ok (.getfield 25, 3) := dk_180 0 25 (dk_at dksX9_round_4 1 rfl rfl)
theorem dX9_round_99 : decode cX9_round 99 = .ok (.iconst 0, 1) := dk_3 (dk_at dksX9_round_4 4 rfl rfl)
theorem dX9_round_100 : decode cX9_round 100 = .ok (.invokevirtual 58, 3) := dk_182 0 58 (dk_at dksX9_round_4 5 rfl rfl)
theorem dX9_round_103 : decode cX9_round 103 = .ok (.return_, 1) := dk_177 (dk_at dksX9_round_4 8 rfl rfl)
theorem dX9_round_104 : decode cX9_round 104 = .ok (.aload_n 0, 1) := dk_42 (dk_at dksX9_round_4 9 rfl rfl)
theorem dX9_round_105 : decode cX9_round 105 = .ok (.getfield 10, 3) := dk_180 0 10 (dk_at dksX9_round_4 10 rfl rfl)
theorem dX9_round_108 : decode cX9_round 108 = .ok (.aload_n 0, 1) := dk_42 (dk_at dksX9_round_4 13 rfl rfl)
theorem dX9_round_109 : decode cX9_round 109 = .ok (.getfield 28, 3) := dk_180 0 28 (dk_at dksX9_round_4 14 rfl rfl)
theorem dX9_round_112 : decode cX9_round 112 = .ok (.getfield 66, 3) := dk_180 0 66 (dk_at dksX9_round_4 17 rfl rfl)
theorem dX9_round_115 : decode cX9_round 115 = .ok (.invokevirtual 100, 3) := dk_182 0 100 (dk_at dksX9_round_4 20 rfl rfl)
theorem dX9_round_118 : decode cX9_round 118 = .ok (.return_, 1) := dk_177 (dk_at dksX9_round_4 23 rfl rfl)
abbrev cX9_goesUp : ByteArray := prog_8_method_4_code
def yX9_goesUp : MethodName := ⟨RX9, "goesUp", "(IZLLibraryDesk$Big;)Z"⟩
def dkwX9_goesUp_5 : List UInt8 := [180, 0, 28, 180, 0, 66, 3, 182, 0, 69, 153, 0, 7, 4, 167, 0, 4, 3, 172]
abbrev dktX9_goesUp_5 : List UInt8 := dkwX9_goesUp_5 ++ []
def dkwX9_goesUp_4 : List UInt8 := [21, 4, 157, 0, 33, 21, 4, 154, 0, 32, 27, 7, 159, 0, 23, 27, 16, 6, 160, 0, 21, 42]
abbrev dktX9_goesUp_4 : List UInt8 := dkwX9_goesUp_4 ++ dktX9_goesUp_5
def dkwX9_goesUp_3 : List UInt8 := [180, 0, 55, 42, 180, 0, 28, 180, 0, 55, 3, 182, 0, 58, 42, 180, 0, 19, 45, 184, 0, 62, 54, 4]
abbrev dktX9_goesUp_3 : List UInt8 := dkwX9_goesUp_3 ++ dktX9_goesUp_4
def dkwX9_goesUp_2 : List UInt8 := [4, 172, 3, 172, 28, 154, 0, 7, 4, 167, 0, 4, 3, 172, 28, 172, 42, 180, 0, 19, 42, 180, 0, 28]
abbrev dktX9_goesUp_2 : List UInt8 := dkwX9_goesUp_2 ++ dktX9_goesUp_3
def dkwX9_goesUp_1 : List UInt8 := [170, 0, 0, 0, 0, 0, 47, 0, 0, 0, 0, 0, 0, 0, 3, 0, 0, 0, 31, 0, 0, 0, 33, 0, 0, 0, 35, 0, 0, 0, 45]
abbrev dktX9_goesUp_1 : List UInt8 := dkwX9_goesUp_1 ++ dktX9_goesUp_2
def dkwX9_goesUp_0 : List UInt8 := [27]
abbrev dktX9_goesUp_0 : List UInt8 := dkwX9_goesUp_0 ++ dktX9_goesUp_1
theorem dksX9_goesUp_0 : cX9_goesUp.data.toList.drop 0 = dktX9_goesUp_0 := by decide +kernel
theorem dksX9_goesUp_1 : cX9_goesUp.data.toList.drop 1 = dktX9_goesUp_1 := dk_seg dksX9_goesUp_0 1 rfl rfl
theorem dksX9_goesUp_2 : cX9_goesUp.data.toList.drop 32 = dktX9_goesUp_2 := dk_seg dksX9_goesUp_1 31 rfl rfl
theorem dksX9_goesUp_3 : cX9_goesUp.data.toList.drop 56 = dktX9_goesUp_3 := dk_seg dksX9_goesUp_2 24 rfl rfl
theorem dksX9_goesUp_4 : cX9_goesUp.data.toList.drop 80 = dktX9_goesUp_4 := dk_seg dksX9_goesUp_3 24 rfl rfl
theorem dksX9_goesUp_5 : cX9_goesUp.data.toList.drop 102 = dktX9_goesUp_5 := dk_seg dksX9_goesUp_4 22 rfl rfl
theorem dX9_goesUp_0 : decode cX9_goesUp 0 = .ok (.iload_n 1, 1) := dk_27 (dk_at dksX9_goesUp_0 0 rfl rfl)
theorem dX9_goesUp_1 : decode cX9_goesUp 1 = .ok (.tableswitch 47 0 3 #[31, 33, 35, 45], 31) := by decide +kernel
theorem dX9_goesUp_32 : decode cX9_goesUp 32 = .ok (.iconst 1, 1) := dk_4 (dk_at dksX9_goesUp_2 0 rfl rfl)
theorem dX9_goesUp_33 : decode cX9_goesUp 33 = .ok (.ireturn, 1) := dk_172 (dk_at dksX9_goesUp_2 1 rfl rfl)
theorem dX9_goesUp_34 : decode cX9_goesUp 34 = .ok (.iconst 0, 1) := dk_3 (dk_at dksX9_goesUp_2 2 rfl rfl)
theorem dX9_goesUp_35 : decode cX9_goesUp 35 = .ok (.ireturn, 1) := dk_172 (dk_at dksX9_goesUp_2 3 rfl rfl)
theorem dX9_goesUp_36 : decode cX9_goesUp 36 = .ok (.iload_n 2, 1) := dk_28 (dk_at dksX9_goesUp_2 4 rfl rfl)
theorem dX9_goesUp_37 : decode cX9_goesUp 37 = .ok (.ifCond .ne 7, 3) := dk_154 0 7 (dk_at dksX9_goesUp_2 5 rfl rfl)
theorem dX9_goesUp_40 : decode cX9_goesUp 40 = .ok (.iconst 1, 1) := dk_4 (dk_at dksX9_goesUp_2 8 rfl rfl)
theorem dX9_goesUp_41 : decode cX9_goesUp 41 = .ok (.goto 4, 3) := dk_167 0 4 (dk_at dksX9_goesUp_2 9 rfl rfl)
theorem dX9_goesUp_44 : decode cX9_goesUp 44 = .ok (.iconst 0, 1) := dk_3 (dk_at dksX9_goesUp_2 12 rfl rfl)
theorem dX9_goesUp_45 : decode cX9_goesUp 45 = .ok (.ireturn, 1) := dk_172 (dk_at dksX9_goesUp_2 13 rfl rfl)
theorem dX9_goesUp_46 : decode cX9_goesUp 46 = .ok (.iload_n 2, 1) := dk_28 (dk_at dksX9_goesUp_2 14 rfl rfl)
theorem dX9_goesUp_47 : decode cX9_goesUp 47 = .ok (.ireturn, 1) := dk_172 (dk_at dksX9_goesUp_2 15 rfl rfl)
theorem dX9_goesUp_48 : decode cX9_goesUp 48 = .ok (.aload_n 0, 1) := dk_42 (dk_at dksX9_goesUp_2 16 rfl rfl)
theorem dX9_goesUp_49 : decode cX9_goesUp 49 = .ok (.getfield 19, 3) := dk_180 0 19 (dk_at dksX9_goesUp_2 17 rfl rfl)
theorem dX9_goesUp_52 : decode cX9_goesUp 52 = .ok (.aload_n 0, 1) := dk_42 (dk_at dksX9_goesUp_2 20 rfl rfl)
theorem dX9_goesUp_53 : decode cX9_goesUp 53 = .ok (.getfield 28, 3) := dk_180 0 28 (dk_at dksX9_goesUp_2 21 rfl rfl)
theorem dX9_goesUp_56 : decode cX9_goesUp 56 = .ok (.getfield 55, 3) := dk_180 0 55 (dk_at dksX9_goesUp_3 0 rfl rfl)
theorem dX9_goesUp_59 : decode cX9_goesUp 59 = .ok (.aload_n 0, 1) := dk_42 (dk_at dksX9_goesUp_3 3 rfl rfl)
theorem dX9_goesUp_60 : decode cX9_goesUp 60 = .ok (.getfield 28, 3) := dk_180 0 28 (dk_at dksX9_goesUp_3 4 rfl rfl)
theorem dX9_goesUp_63 : decode cX9_goesUp 63 = .ok (.getfield 55, 3) := dk_180 0 55 (dk_at dksX9_goesUp_3 7 rfl rfl)
theorem dX9_goesUp_66 : decode cX9_goesUp 66 = .ok (.iconst 0, 1) := dk_3 (dk_at dksX9_goesUp_3 10 rfl rfl)
theorem dX9_goesUp_67 : decode cX9_goesUp 67 = .ok (.invokevirtual 58, 3) := dk_182 0 58 (dk_at dksX9_goesUp_3 11 rfl rfl)
theorem dX9_goesUp_70 : decode cX9_goesUp 70 = .ok (.aload_n 0, 1) := dk_42 (dk_at dksX9_goesUp_3 14 rfl rfl)
theorem dX9_goesUp_71 : decode cX9_goesUp 71 = .ok (.getfield 19, 3) := dk_180 0 19 (dk_at dksX9_goesUp_3 15 rfl rfl)
theorem dX9_goesUp_74 : decode cX9_goesUp 74 = .ok (.aload_n 3, 1) := dk_45 (dk_at dksX9_goesUp_3 18 rfl rfl)
theorem dX9_goesUp_75 : decode cX9_goesUp 75 = .ok (.invokestatic 62, 3) := dk_184 0 62 (dk_at dksX9_goesUp_3 19 rfl rfl)
theorem dX9_goesUp_78 : decode cX9_goesUp 78 = .ok (.istore 4, 2) := dk_54 4 (dk_at dksX9_goesUp_3 22 rfl rfl)
theorem dX9_goesUp_80 : decode cX9_goesUp 80 = .ok (.iload 4, 2) := dk_21 4 (dk_at dksX9_goesUp_4 0 rfl rfl)
theorem dX9_goesUp_82 : decode cX9_goesUp 82 = .ok (.ifCond .gt 33, 3) := dk_157 0 33 (dk_at dksX9_goesUp_4 2 rfl rfl)
theorem dX9_goesUp_85 : decode cX9_goesUp 85 = .ok (.iload 4, 2) := dk_21 4 (dk_at dksX9_goesUp_4 5 rfl rfl)
theorem dX9_goesUp_87 : decode cX9_goesUp 87 = .ok (.ifCond .ne 32, 3) := dk_154 0 32 (dk_at dksX9_goesUp_4 7 rfl rfl)
theorem dX9_goesUp_90 : decode cX9_goesUp 90 = .ok (.iload_n 1, 1) := dk_27 (dk_at dksX9_goesUp_4 10 rfl rfl)
theorem dX9_goesUp_91 : decode cX9_goesUp 91 = .ok (.iconst 4, 1) := dk_7 (dk_at dksX9_goesUp_4 11 rfl rfl)
theorem dX9_goesUp_92 : decode cX9_goesUp 92 = .ok (.if_icmp .eq 23, 3) := dk_159 0 23 (dk_at dksX9_goesUp_4 12 rfl rfl)
theorem dX9_goesUp_95 : decode cX9_goesUp 95 = .ok (.iload_n 1, 1) := dk_27 (dk_at dksX9_goesUp_4 15 rfl rfl)
theorem dX9_goesUp_96 : decode cX9_goesUp 96 = .ok (.bipush 6, 2) := dk_16 6 (dk_at dksX9_goesUp_4 16 rfl rfl)
theorem dX9_goesUp_98 : decode cX9_goesUp 98 = .ok (.if_icmp .ne 21, 3) := dk_160 0 21 (dk_at dksX9_goesUp_4 18 rfl rfl)
theorem dX9_goesUp_101 : decode cX9_goesUp 101 = .ok (.aload_n 0, 1) := dk_42 (dk_at dksX9_goesUp_4 21 rfl rfl)
theorem dX9_goesUp_102 : decode cX9_goesUp 102 = .ok (.getfield 28, 3) := dk_180 0 28 (dk_at dksX9_goesUp_5 0 rfl rfl)
theorem dX9_goesUp_105 : decode cX9_goesUp 105 = .ok (.getfield 66, 3) := dk_180 0 66 (dk_at dksX9_goesUp_5 3 rfl rfl)
theorem dX9_goesUp_108 : decode cX9_goesUp 108 = .ok (.iconst 0, 1) := dk_3 (dk_at dksX9_goesUp_5 6 rfl rfl)
theorem dX9_goesUp_109 : decode cX9_goesUp 109 = .ok (.invokevirtual 69, 3) := dk_182 0 69 (dk_at dksX9_goesUp_5 7 rfl rfl)
theorem dX9_goesUp_112 : decode cX9_goesUp 112 = .ok (.ifCond .eq 7, 3) := dk_153 0 7 (dk_at dksX9_goesUp_5 10 rfl rfl)
theorem dX9_goesUp_115 : decode cX9_goesUp 115 = .ok (.iconst 1, 1) := dk_4 (dk_at dksX9_goesUp_5 13 rfl rfl)
theorem dX9_goesUp_116 : decode cX9_goesUp 116 = .ok (.goto 4, 3) := dk_167 0 4 (dk_at dksX9_goesUp_5 14 rfl rfl)
theorem dX9_goesUp_119 : decode cX9_goesUp 119 = .ok (.iconst 0, 1) := dk_3 (dk_at dksX9_goesUp_5 17 rfl rfl)
theorem dX9_goesUp_120 : decode cX9_goesUp 120 = .ok (.ireturn, 1) := dk_172 (dk_at dksX9_goesUp_5 18 rfl rfl)
abbrev cX9_toScale : ByteArray := prog_8_method_6_code
def yX9_toScale : MethodName := ⟨RX9, "toScale", "(LLibraryDesk$DecimalThing;II)V"⟩
def dkwX9_toScale_3 : List UInt8 := [180, 0, 48, 42, 180, 0, 16, 29, 182, 0, 103, 177]
abbrev dktX9_toScale_3 : List UInt8 := dkwX9_toScale_3 ++ []
def dkwX9_toScale_2 : List UInt8 := [182, 0, 32, 42, 180, 0, 19, 43, 180, 0, 48, 182, 0, 100, 42, 180, 0, 16, 3, 181, 0, 76, 42, 43]
abbrev dktX9_toScale_2 : List UInt8 := dkwX9_toScale_2 ++ dktX9_toScale_3
def dkwX9_toScale_1 : List UInt8 := [180, 0, 41, 100, 182, 0, 51, 177, 42, 180, 0, 28, 42, 180, 0, 16, 43, 180, 0, 41, 28, 100]
abbrev dktX9_toScale_1 : List UInt8 := dkwX9_toScale_1 ++ dktX9_toScale_2
def dkwX9_toScale_0 : List UInt8 := [42, 28, 181, 0, 47, 28, 43, 180, 0, 41, 161, 0, 22, 42, 42, 180, 0, 10, 43, 180, 0, 48, 28, 43]
abbrev dktX9_toScale_0 : List UInt8 := dkwX9_toScale_0 ++ dktX9_toScale_1
theorem dksX9_toScale_0 : cX9_toScale.data.toList.drop 0 = dktX9_toScale_0 := by decide +kernel
theorem dksX9_toScale_1 : cX9_toScale.data.toList.drop 24 = dktX9_toScale_1 := dk_seg dksX9_toScale_0 24 rfl rfl
theorem dksX9_toScale_2 : cX9_toScale.data.toList.drop 46 = dktX9_toScale_2 := dk_seg dksX9_toScale_1 22 rfl rfl
theorem dksX9_toScale_3 : cX9_toScale.data.toList.drop 70 = dktX9_toScale_3 := dk_seg dksX9_toScale_2 24 rfl rfl
theorem dX9_toScale_0 : decode cX9_toScale 0 = .ok (.aload_n 0, 1) := dk_42 (dk_at dksX9_toScale_0 0 rfl rfl)
theorem dX9_toScale_1 : decode cX9_toScale 1 = .ok (.iload_n 2, 1) := dk_28 (dk_at dksX9_toScale_0 1 rfl rfl)
theorem dX9_toScale_2 : decode cX9_toScale 2 = .ok (.putfield 47, 3) := dk_181 0 47 (dk_at dksX9_toScale_0 2 rfl rfl)
theorem dX9_toScale_5 : decode cX9_toScale 5 = .ok (.iload_n 2, 1) := dk_28 (dk_at dksX9_toScale_0 5 rfl rfl)
theorem dX9_toScale_6 : decode cX9_toScale 6 = .ok (.aload_n 1, 1) := dk_43 (dk_at dksX9_toScale_0 6 rfl rfl)
theorem dX9_toScale_7 : decode cX9_toScale 7 = .ok (.getfield 41, 3) := dk_180 0 41 (dk_at dksX9_toScale_0 7 rfl rfl)
theorem dX9_toScale_10 : decode cX9_toScale 10 = .ok (.if_icmp .lt 22, 3) := dk_161 0 22 (dk_at dksX9_toScale_0 10 rfl rfl)
theorem dX9_toScale_13 : decode cX9_toScale 13 = .ok (.aload_n 0, 1) := dk_42 (dk_at dksX9_toScale_0 13 rfl rfl)
theorem dX9_toScale_14 : decode cX9_toScale 14 = .ok (.aload_n 0, 1) := dk_42 (dk_at dksX9_toScale_0 14 rfl rfl)
theorem dX9_toScale_15 : decode cX9_toScale 15 = .ok (.getfield 10, 3) := dk_180 0 10 (dk_at dksX9_toScale_0 15 rfl rfl)
theorem dX9_toScale_18 : decode cX9_toScale 18 = .ok (.aload_n 1, 1) := dk_43 (dk_at dksX9_toScale_0 18 rfl rfl)
theorem dX9_toScale_19 : decode cX9_toScale 19 = .ok (.getfield 48, 3) := dk_180 0 48 (dk_at dksX9_toScale_0 19 rfl rfl)
theorem dX9_toScale_22 : decode cX9_toScale 22 = .ok (.iload_n 2, 1) := dk_28 (dk_at dksX9_toScale_0 22 rfl rfl)
theorem dX9_toScale_23 : decode cX9_toScale 23 = .ok (.aload_n 1, 1) := dk_43 (dk_at dksX9_toScale_0 23 rfl rfl)
theorem dX9_toScale_24 : decode cX9_toScale 24 = .ok (.getfield 41, 3) := dk_180 0 41 (dk_at dksX9_toScale_1 0 rfl rfl)
theorem dX9_toScale_27 : decode cX9_toScale 27 = .ok (.isub, 1) := dk_100 (dk_at dksX9_toScale_1 3 rfl rfl)
theorem dX9_toScale_28 : decode cX9_toScale 28 = .ok (.invokevirtual 51, 3) := dk_182 0 51 (dk_at dksX9_toScale_1 4 rfl rfl)
theorem dX9_toScale_31 : decode cX9_toScale 31 = .ok (.return_, 1) := dk_177 (dk_at dksX9_toScale_1 7 rfl rfl)
theorem dX9_toScale_32 : decode cX9_toScale 32 = .ok (.aload_n 0, 1) := dk_42 (dk_at dksX9_toScale_1 8 rfl rfl)
theorem dX9_toScale_33 : decode cX9_toScale 33 = .ok (.getfield 28, 3) := dk_180 0 28 (dk_at dksX9_toScale_1 9 rfl rfl)
theorem dX9_toScale_36 : decode cX9_toScale 36 = .ok (.aload_n 0, 1) := dk_42 (dk_at dksX9_toScale_1 12 rfl rfl)
theorem dX9_toScale_37 : decode cX9_toScale 37 = .ok (.getfield 16, 3) := dk_180 0 16 (dk_at dksX9_toScale_1 13 rfl rfl)
theorem dX9_toScale_40 : decode cX9_toScale 40 = .ok (.aload_n 1, 1) := dk_43 (dk_at dksX9_toScale_1 16 rfl rfl)
theorem dX9_toScale_41 : decode cX9_toScale 41 = .ok (.getfield 41, 3) := dk_180 0 41 (dk_at dksX9_toScale_1 17 rfl rfl)
theorem dX9_toScale_44 : decode cX9_toScale 44 = .ok (.iload_n 2, 1) := dk_28 (dk_at dksX9_toScale_1 20 rfl rfl)
theorem dX9_toScale_45 : decode cX9_toScale 45 = .ok (.isub, 1) := dk_100 (dk_at dksX9_toScale_1 21 rfl rfl)
theorem dX9_toScale_46 : decode cX9_toScale 46 = .ok (.invokevirtual 32, 3) := dk_182 0 32 (dk_at dksX9_toScale_2 0 rfl rfl)
theorem dX9_toScale_49 : decode cX9_toScale 49 = .ok (.aload_n 0, 1) := dk_42 (dk_at dksX9_toScale_2 3 rfl rfl)
theorem dX9_toScale_50 : decode cX9_toScale 50 = .ok (.getfield 19, 3) := dk_180 0 19 (dk_at dksX9_toScale_2 4 rfl rfl)
theorem dX9_toScale_53 : decode cX9_toScale 53 = .ok (.aload_n 1, 1) := dk_43 (dk_at dksX9_toScale_2 7 rfl rfl)
theorem dX9_toScale_54 : decode cX9_toScale 54 = .ok (.getfield 48, 3) := dk_180 0 48 (dk_at dksX9_toScale_2 8 rfl rfl)
theorem dX9_toScale_57 : decode cX9_toScale 57 = .ok (.invokevirtual 100, 3) := dk_182 0 100 (dk_at dksX9_toScale_2 11 rfl rfl)
theorem dX9_toScale_60 : decode cX9_toScale 60 = .ok (.aload_n 0, 1) := dk_42 (dk_at dksX9_toScale_2 14 rfl rfl)
theorem dX9_toScale_61 : decode cX9_toScale 61 = .ok (.getfield 16, 3) := dk_180 0 16 (dk_at dksX9_toScale_2 15 rfl rfl)
theorem dX9_toScale_64 : decode cX9_toScale 64 = .ok (.iconst 0, 1) := dk_3 (dk_at dksX9_toScale_2 18 rfl rfl)
theorem dX9_toScale_65 : decode cX9_toScale 65 = .ok (.putfield 76, 3) := dk_181 0 76 (dk_at dksX9_toScale_2 19 rfl rfl)
theorem dX9_toScale_68 : decode cX9_toScale 68 = .ok (.aload_n 0, 1) := dk_42 (dk_at dksX9_toScale_2 22 rfl rfl)
theorem dX9_toScale_69 : decode cX9_toScale 69 = .ok (.aload_n 1, 1) := dk_43 (dk_at dksX9_toScale_2 23 rfl rfl)
theorem dX9_toScale_70 : decode cX9_toScale 70 = .ok (.getfield 48, 3) := dk_180 0 48 (dk_at dksX9_toScale_3 0 rfl rfl)
theorem dX9_toScale_73 : decode cX9_toScale 73 = .ok (.aload_n 0, 1) := dk_42 (dk_at dksX9_toScale_3 3 rfl rfl)
theorem dX9_toScale_74 : decode cX9_toScale 74 = .ok (.getfield 16, 3) := dk_180 0 16 (dk_at dksX9_toScale_3 4 rfl rfl)
theorem dX9_toScale_77 : decode cX9_toScale 77 = .ok (.iload_n 3, 1) := dk_29 (dk_at dksX9_toScale_3 7 rfl rfl)
theorem dX9_toScale_78 : decode cX9_toScale 78 = .ok (.invokevirtual 103, 3) := dk_182 0 103 (dk_at dksX9_toScale_3 8 rfl rfl)
theorem dX9_toScale_81 : decode cX9_toScale 81 = .ok (.return_, 1) := dk_177 (dk_at dksX9_toScale_3 11 rfl rfl)
abbrev cX9_shorten : ByteArray := prog_8_method_8_code
def yX9_shorten : MethodName := ⟨RX9, "shorten", "(LLibraryDesk$DecimalThing;II)V"⟩
def dkwX9_shorten_4 : List UInt8 := [21, 5, 181, 0, 76, 42, 89, 180, 0, 47, 4, 100, 181, 0, 47, 177]
abbrev dktX9_shorten_4 : List UInt8 := dkwX9_shorten_4 ++ []
def dkwX9_shorten_3 : List UInt8 := [42, 180, 0, 10, 180, 0, 76, 54, 5, 42, 180, 0, 10, 16, 10, 182, 0, 114, 54, 6, 42, 180, 0, 10]
abbrev dktX9_shorten_3 : List UInt8 := dkwX9_shorten_3 ++ dktX9_shorten_4
def dkwX9_shorten_2 : List UInt8 := [21, 4, 28, 100, 100, 29, 182, 0, 110, 42, 180, 0, 28, 42, 180, 0, 10, 182, 0, 106, 28, 164, 0, 42]
abbrev dktX9_shorten_2 : List UInt8 := dkwX9_shorten_2 ++ dktX9_shorten_3
def dkwX9_shorten_1 : List UInt8 := [180, 0, 10, 43, 180, 0, 48, 182, 0, 100, 21, 4, 28, 163, 0, 4, 177, 42, 43, 43, 180, 0, 41]
abbrev dktX9_shorten_1 : List UInt8 := dkwX9_shorten_1 ++ dktX9_shorten_2
def dkwX9_shorten_0 : List UInt8 := [42, 180, 0, 28, 43, 180, 0, 48, 182, 0, 106, 54, 4, 42, 43, 180, 0, 41, 181, 0, 47, 42]
abbrev dktX9_shorten_0 : List UInt8 := dkwX9_shorten_0 ++ dktX9_shorten_1
theorem dksX9_shorten_0 : cX9_shorten.data.toList.drop 0 = dktX9_shorten_0 := by decide +kernel
theorem dksX9_shorten_1 : cX9_shorten.data.toList.drop 22 = dktX9_shorten_1 := dk_seg dksX9_shorten_0 22 rfl rfl
theorem dksX9_shorten_2 : cX9_shorten.data.toList.drop 45 = dktX9_shorten_2 := dk_seg dksX9_shorten_1 23 rfl rfl
theorem dksX9_shorten_3 : cX9_shorten.data.toList.drop 69 = dktX9_shorten_3 := dk_seg dksX9_shorten_2 24 rfl rfl
theorem dksX9_shorten_4 : cX9_shorten.data.toList.drop 93 = dktX9_shorten_4 := dk_seg dksX9_shorten_3 24 rfl rfl
theorem dX9_shorten_0 : decode cX9_shorten 0 = .ok (.aload_n 0, 1) := dk_42 (dk_at dksX9_shorten_0 0 rfl rfl)
theorem dX9_shorten_1 : decode cX9_shorten 1 = .ok (.getfield 28, 3) := dk_180 0 28 (dk_at dksX9_shorten_0 1 rfl rfl)
theorem dX9_shorten_4 : decode cX9_shorten 4 = .ok (.aload_n 1, 1) := dk_43 (dk_at dksX9_shorten_0 4 rfl rfl)
theorem dX9_shorten_5 : decode cX9_shorten 5 = .ok (.getfield 48, 3) := dk_180 0 48 (dk_at dksX9_shorten_0 5 rfl rfl)
theorem dX9_shorten_8 : decode cX9_shorten 8 = .ok (.invokevirtual 106, 3) := dk_182 0 106 (dk_at dksX9_shorten_0 8 rfl rfl)
theorem dX9_shorten_11 : decode cX9_shorten 11 = .ok (.istore 4, 2) := dk_54 4 (dk_at dksX9_shorten_0 11 rfl rfl)
theorem dX9_shorten_13 : decode cX9_shorten 13 = .ok (.aload_n 0, 1) := dk_42 (dk_at dksX9_shorten_0 13 rfl rfl)
theorem dX9_shorten_14 : decode cX9_shorten 14 = .ok (.aload_n 1, 1) := dk_43 (dk_at dksX9_shorten_0 14 rfl rfl)
theorem dX9_shorten_15 : decode cX9_shorten 15 = .ok (.getfield 41, 3) := dk_180 0 41 (dk_at dksX9_shorten_0 15 rfl rfl)
theorem dX9_shorten_18 : decode cX9_shorten 18 = .ok (.putfield 47, 3) := dk_181 0 47 (dk_at dksX9_shorten_0 18 rfl rfl)
theorem dX9_shorten_21 : decode cX9_shorten 21 = .ok (.aload_n 0, 1) := dk_42 (dk_at dksX9_shorten_0 21 rfl rfl)
theorem dX9_shorten_22 : decode cX9_shorten 22 = .ok (.getfield 10, 3) := dk_180 0 10 (dk_at dksX9_shorten_1 0 rfl rfl)
theorem dX9_shorten_25 : decode cX9_shorten 25 = .ok (.aload_n 1, 1) := dk_43 (dk_at dksX9_shorten_1 3 rfl rfl)
theorem dX9_shorten_26 : decode cX9_shorten 26 = .ok (.getfield 48, 3) := dk_180 0 48 (dk_at dksX9_shorten_1 4 rfl rfl)
theorem dX9_shorten_29 : decode cX9_shorten 29 = .ok (.invokevirtual 100, 3) := dk_182 0 100 (dk_at dksX9_shorten_1 7 rfl rfl)
theorem dX9_shorten_32 : decode cX9_shorten 32 = .ok (.iload 4, 2) := dk_21 4 (dk_at dksX9_shorten_1 10 rfl rfl)
theorem dX9_shorten_34 : decode cX9_shorten 34 = .ok (.iload_n 2, 1) := dk_28 (dk_at dksX9_shorten_1 12 rfl rfl)
theorem dX9_shorten_35 : decode cX9_shorten 35 = .ok (.if_icmp .gt 4, 3) := dk_163 0 4 (dk_at dksX9_shorten_1 13 rfl rfl)
theorem dX9_shorten_38 : decode cX9_shorten 38 = .ok (.return_, 1) := dk_177 (dk_at dksX9_shorten_1 16 rfl rfl)
theorem dX9_shorten_39 : decode cX9_shorten 39 = .ok (.aload_n 0, 1) := dk_42 (dk_at dksX9_shorten_1 17 rfl rfl)
theorem dX9_shorten_40 : decode cX9_shorten 40 = .ok (.aload_n 1, 1) := dk_43 (dk_at dksX9_shorten_1 18 rfl rfl)
theorem dX9_shorten_41 : decode cX9_shorten 41 = .ok (.aload_n 1, 1) := dk_43 (dk_at dksX9_shorten_1 19 rfl rfl)
theorem dX9_shorten_42 : decode cX9_shorten 42 = .ok (.getfield 41, 3) := dk_180 0 41 (dk_at dksX9_shorten_1 20 rfl rfl)
theorem dX9_shorten_45 : decode cX9_shorten 45 = .ok (.iload 4, 2) := dk_21 4 (dk_at dksX9_shorten_2 0 rfl rfl)
theorem dX9_shorten_47 : decode cX9_shorten 47 = .ok (.iload_n 2, 1) := dk_28 (dk_at dksX9_shorten_2 2 rfl rfl)
theorem dX9_shorten_48 : decode cX9_shorten 48 = .ok (.isub, 1) := dk_100 (dk_at dksX9_shorten_2 3 rfl rfl)
theorem dX9_shorten_49 : decode cX9_shorten 49 = .ok (.isub, 1) := dk_100 (dk_at dksX9_shorten_2 4 rfl rfl)
theorem dX9_shorten_50 : decode cX9_shorten 50 = .ok (.iload_n 3, 1) := dk_29 (dk_at dksX9_shorten_2 5 rfl rfl)
theorem dX9_shorten_51 : decode cX9_shorten 51 = .ok (.invokevirtual 110, 3) := dk_182 0 110 (dk_at dksX9_shorten_2 6 rfl rfl)
theorem dX9_shorten_54 : decode cX9_shorten 54 = .ok (.aload_n 0, 1) := dk_42 (dk_at dksX9_shorten_2 9 rfl rfl)
theorem dX9_shorten_55 : decode cX9_shorten 55 = .ok (.getfield 28, 3) := dk_180 0 28 (dk_at dksX9_shorten_2 10 rfl rfl)
theorem dX9_shorten_58 : decode cX9_shorten 58 = .ok (.aload_n 0, 1) := dk_42 (dk_at dksX9_shorten_2 13 rfl rfl)
theorem dX9_shorten_59 : decode cX9_shorten 59 = .ok (.getfield 10, 3) := dk_180 0 10 (dk_at dksX9_shorten_2 14 rfl rfl)
theorem dX9_shorten_62 : decode cX9_shorten 62 = .ok (.invokevirtual 106, 3) := dk_182 0 106 (dk_at dksX9_shorten_2 17 rfl rfl)
theorem dX9_shorten_65 : decode cX9_shorten 65 = .ok (.iload_n 2, 1) := dk_28 (dk_at dksX9_shorten_2 20 rfl rfl)
theorem dX9_shorten_66 : decode cX9_shorten 66 = .ok (.if_icmp .le 42, 3) := dk_164 0 42 (dk_at dksX9_shorten_2 21 rfl rfl)
theorem dX9_shorten_69 : decode cX9_shorten 69 = .ok (.aload_n 0, 1) := dk_42 (dk_at dksX9_shorten_3 0 rfl rfl)
theorem dX9_shorten_70 : decode cX9_shorten 70 = .ok (.getfield 10, 3) := dk_180 0 10 (dk_at dksX9_shorten_3 1 rfl rfl)
theorem dX9_shorten_73 : decode cX9_shorten 73 = .ok (.getfield 76, 3) := dk_180 0 76 (dk_at dksX9_shorten_3 4 rfl rfl)
theorem dX9_shorten_76 : decode cX9_shorten 76 = .ok (.istore 5, 2) := dk_54 5 (dk_at dksX9_shorten_3 7 rfl rfl)
theorem dX9_shorten_78 : decode cX9_shorten 78 = .ok (.aload_n 0, 1) := dk_42 (dk_at dksX9_shorten_3 9 rfl rfl)
theorem dX9_shorten_79 : decode cX9_shorten 79 = .ok (.getfield 10, 3) := dk_180 0 10 (dk_at dksX9_shorten_3 10 rfl rfl)
theorem dX9_shorten_82 : decode cX9_shorten 82 = .ok (.bipush 10, 2) := dk_16 10 (dk_at dksX9_shorten_3 13 rfl rfl)
theorem dX9_shorten_84 : decode cX9_shorten 84 = .ok (.invokevirtual 114, 3) := dk_182 0 114 (dk_at dksX9_shorten_3 15 rfl rfl)
theorem dX9_shorten_87 : decode cX9_shorten 87 = .ok (.istore 6, 2) := dk_54 6 (dk_at dksX9_shorten_3 18 rfl rfl)
theorem dX9_shorten_89 : decode cX9_shorten 89 = .ok (.aload_n 0, 1) := dk_42 (dk_at dksX9_shorten_3 20 rfl rfl)
theorem dX9_shorten_90 : decode cX9_shorten 90 = .ok (.getfield 10, 3) := dk_180 0 10 (dk_at dksX9_shorten_3 21 rfl rfl)
theorem dX9_shorten_93 : decode cX9_shorten 93 = .ok (.iload 5, 2) := dk_21 5 (dk_at dksX9_shorten_4 0 rfl rfl)
theorem dX9_shorten_95 : decode cX9_shorten 95 = .ok (.putfield 76, 3) := dk_181 0 76 (dk_at dksX9_shorten_4 2 rfl rfl)
theorem dX9_shorten_98 : decode cX9_shorten 98 = .ok (.aload_n 0, 1) := dk_42 (dk_at dksX9_shorten_4 5 rfl rfl)
theorem dX9_shorten_99 : decode cX9_shorten 99 = .ok (.dup, 1) := dk_89 (dk_at dksX9_shorten_4 6 rfl rfl)
theorem dX9_shorten_100 : decode cX9_shorten 100 = .ok (.getfield 47, 3) := dk_180 0 47 (dk_at dksX9_shorten_4 7 rfl rfl)
theorem dX9_shorten_103 : decode cX9_shorten 103 = .ok (.iconst 1, 1) := dk_4 (dk_at dksX9_shorten_4 10 rfl rfl)
theorem dX9_shorten_104 : decode cX9_shorten 104 = .ok (.isub, 1) := dk_100 (dk_at dksX9_shorten_4 11 rfl rfl)
theorem dX9_shorten_105 : decode cX9_shorten 105 = .ok (.putfield 47, 3) := dk_181 0 47 (dk_at dksX9_shorten_4 12 rfl rfl)
theorem dX9_shorten_108 : decode cX9_shorten 108 = .ok (.return_, 1) := dk_177 (dk_at dksX9_shorten_4 15 rfl rfl)
abbrev cX9_strip : ByteArray := prog_8_method_9_code
def yX9_strip : MethodName := ⟨RX9, "strip", "(LLibraryDesk$DecimalThing;)V"⟩
def dkwX9_strip_5 : List UInt8 := [180, 0, 47, 4, 100, 181, 0, 47, 167, 255, 184, 177]
abbrev dktX9_strip_5 : List UInt8 := dkwX9_strip_5 ++ []
def dkwX9_strip_4 : List UInt8 := [180, 0, 10, 180, 0, 76, 181, 0, 76, 42, 180, 0, 10, 42, 180, 0, 19, 182, 0, 100, 42, 89]
abbrev dktX9_strip_4 : List UInt8 := dkwX9_strip_4 ++ dktX9_strip_5
def dkwX9_strip_3 : List UInt8 := [16, 10, 182, 0, 114, 154, 0, 7, 4, 167, 0, 4, 3, 61, 28, 153, 255, 222, 42, 180, 0, 19, 42]
abbrev dktX9_strip_3 : List UInt8 := dkwX9_strip_3 ++ dktX9_strip_4
def dkwX9_strip_2 : List UInt8 := [167, 0, 4, 3, 61, 28, 153, 0, 74, 42, 180, 0, 19, 42, 180, 0, 10, 182, 0, 100, 42, 180, 0, 19]
abbrev dktX9_strip_2 : List UInt8 := dkwX9_strip_2 ++ dktX9_strip_3
def dkwX9_strip_1 : List UInt8 := [182, 0, 80, 153, 0, 8, 42, 3, 181, 0, 47, 42, 180, 0, 10, 182, 0, 80, 154, 0, 7, 4]
abbrev dktX9_strip_1 : List UInt8 := dkwX9_strip_1 ++ dktX9_strip_2
def dkwX9_strip_0 : List UInt8 := [42, 180, 0, 10, 43, 180, 0, 48, 182, 0, 100, 42, 43, 180, 0, 41, 181, 0, 47, 42, 180, 0, 10]
abbrev dktX9_strip_0 : List UInt8 := dkwX9_strip_0 ++ dktX9_strip_1
theorem dksX9_strip_0 : cX9_strip.data.toList.drop 0 = dktX9_strip_0 := by decide +kernel
theorem dksX9_strip_1 : cX9_strip.data.toList.drop 23 = dktX9_strip_1 := dk_seg dksX9_strip_0 23 rfl rfl
theorem dksX9_strip_2 : cX9_strip.data.toList.drop 45 = dktX9_strip_2 := dk_seg dksX9_strip_1 22 rfl rfl
theorem dksX9_strip_3 : cX9_strip.data.toList.drop 69 = dktX9_strip_3 := dk_seg dksX9_strip_2 24 rfl rfl
theorem dksX9_strip_4 : cX9_strip.data.toList.drop 92 = dktX9_strip_4 := dk_seg dksX9_strip_3 23 rfl rfl
theorem dksX9_strip_5 : cX9_strip.data.toList.drop 114 = dktX9_strip_5 := dk_seg dksX9_strip_4 22 rfl rfl
theorem dX9_strip_0 : decode cX9_strip 0 = .ok (.aload_n 0, 1) := dk_42 (dk_at dksX9_strip_0 0 rfl rfl)
theorem dX9_strip_1 : decode cX9_strip 1 = .ok (.getfield 10, 3) := dk_180 0 10 (dk_at dksX9_strip_0 1 rfl rfl)
theorem dX9_strip_4 : decode cX9_strip 4 = .ok (.aload_n 1, 1) := dk_43 (dk_at dksX9_strip_0 4 rfl rfl)
theorem dX9_strip_5 : decode cX9_strip 5 = .ok (.getfield 48, 3) := dk_180 0 48 (dk_at dksX9_strip_0 5 rfl rfl)
theorem dX9_strip_8 : decode cX9_strip 8 = .ok (.invokevirtual 100, 3) := dk_182 0 100 (dk_at dksX9_strip_0 8 rfl rfl)
theorem dX9_strip_11 : decode cX9_strip 11 = .ok (.aload_n 0, 1) := dk_42 (dk_at dksX9_strip_0 11 rfl rfl)
theorem dX9_strip_12 : decode cX9_strip 12 = .ok (.aload_n 1, 1) := dk_43 (dk_at dksX9_strip_0 12 rfl rfl)
theorem dX9_strip_13 : decode cX9_strip 13 = .ok (.getfield 41, 3) := dk_180 0 41 (dk_at dksX9_strip_0 13 rfl rfl)
theorem dX9_strip_16 : decode cX9_strip 16 = .ok (.putfield 47, 3) := dk_181 0 47 (dk_at dksX9_strip_0 16 rfl rfl)
theorem dX9_strip_19 : decode cX9_strip 19 = .ok (.aload_n 0, 1) := dk_42 (dk_at dksX9_strip_0 19 rfl rfl)
theorem dX9_strip_20 : decode cX9_strip 20 = .ok (.getfield 10, 3) := dk_180 0 10 (dk_at dksX9_strip_0 20 rfl rfl)
theorem dX9_strip_23 : decode cX9_strip 23 = .ok (.invokevirtual 80, 3) := dk_182 0 80 (dk_at dksX9_strip_1 0 rfl rfl)
theorem dX9_strip_26 : decode cX9_strip 26 = .ok (.ifCond .eq 8, 3) := dk_153 0 8 (dk_at dksX9_strip_1 3 rfl rfl)
theorem dX9_strip_29 : decode cX9_strip 29 = .ok (.aload_n 0, 1) := dk_42 (dk_at dksX9_strip_1 6 rfl rfl)
theorem dX9_strip_30 : decode cX9_strip 30 = .ok (.iconst 0, 1) := dk_3 (dk_at dksX9_strip_1 7 rfl rfl)
theorem dX9_strip_31 : decode cX9_strip 31 = .ok (.putfield 47, 3) := dk_181 0 47 (dk_at dksX9_strip_1 8 rfl rfl)
theorem dX9_strip_34 : decode cX9_strip 34 = .ok (.aload_n 0, 1) := dk_42 (dk_at dksX9_strip_1 11 rfl rfl)
theorem dX9_strip_35 : decode cX9_strip 35 = .ok (.getfield 10, 3) := dk_180 0 10 (dk_at dksX9_strip_1 12 rfl rfl)
theorem dX9_strip_38 : decode cX9_strip 38 = .ok (.invokevirtual 80, 3) := dk_182 0 80 (dk_at dksX9_strip_1 15 rfl rfl)
theorem dX9_strip_41 : decode cX9_strip 41 = .ok (.ifCond .ne 7, 3) := dk_154 0 7 (dk_at dksX9_strip_1 18 rfl rfl)
theorem dX9_strip_44 : decode cX9_strip 44 = .ok (.iconst 1, 1) := dk_4 (dk_at dksX9_strip_1 21 rfl rfl)
theorem dX9_strip_45 : decode cX9_strip 45 = .ok (.goto 4, 3) := dk_167 0 4 (dk_at dksX9_strip_2 0 rfl rfl)
theorem dX9_strip_48 : decode cX9_strip 48 = .ok (.iconst 0, 1) := dk_3 (dk_at dksX9_strip_2 3 rfl rfl)
theorem dX9_strip_49 : decode cX9_strip 49 = .ok (.istore_n 2, 1) := dk_61 (dk_at dksX9_strip_2 4 rfl rfl)
theorem dX9_strip_50 : decode cX9_strip 50 = .ok (.iload_n 2, 1) := dk_28 (dk_at dksX9_strip_2 5 rfl rfl)
theorem dX9_strip_51 : decode cX9_strip 51 = .ok (.ifCond .eq 74, 3) := dk_153 0 74 (dk_at dksX9_strip_2 6 rfl rfl)
theorem dX9_strip_54 : decode cX9_strip 54 = .ok (.aload_n 0, 1) := dk_42 (dk_at dksX9_strip_2 9 rfl rfl)
theorem dX9_strip_55 : decode cX9_strip 55 = .ok (.getfield 19, 3) := dk_180 0 19 (dk_at dksX9_strip_2 10 rfl rfl)
theorem dX9_strip_58 : decode cX9_strip 58 = .ok (.aload_n 0, 1) := dk_42 (dk_at dksX9_strip_2 13 rfl rfl)
theorem dX9_strip_59 : decode cX9_strip 59 = .ok (.getfield 10, 3) := dk_180 0 10 (dk_at dksX9_strip_2 14 rfl rfl)
theorem dX9_strip_62 : decode cX9_strip 62 = .ok (.invokevirtual 100, 3) := dk_182 0 100 (dk_at dksX9_strip_2 17 rfl rfl)
theorem dX9_strip_65 : decode cX9_strip 65 = .ok (.aload_n 0, 1) := dk_42 (dk_at dksX9_strip_2 20 rfl rfl)
theorem dX9_strip_66 : decode cX9_strip 66 = .ok (.getfield 19, 3) := dk_180 0 19 (dk_at dksX9_strip_2 21 rfl rfl)
theorem dX9_strip_69 : decode cX9_strip 69 = .ok (.bipush 10, 2) := dk_16 10 (dk_at dksX9_strip_3 0 rfl rfl)
theorem dX9_strip_71 : decode cX9_strip 71 = .ok (.invokevirtual 114, 3) := dk_182 0 114 (dk_at dksX9_strip_3 2 rfl rfl)
theorem dX9_strip_74 : decode cX9_strip 74 = .ok (.ifCond .ne 7, 3) := dk_154 0 7 (dk_at dksX9_strip_3 5 rfl rfl)
theorem dX9_strip_77 : decode cX9_strip 77 = .ok (.iconst 1, 1) := dk_4 (dk_at dksX9_strip_3 8 rfl rfl)
theorem dX9_strip_78 : decode cX9_strip 78 = .ok (.goto 4, 3) := dk_167 0 4 (dk_at dksX9_strip_3 9 rfl rfl)
theorem dX9_strip_81 : decode cX9_strip 81 = .ok (.iconst 0, 1) := dk_3 (dk_at dksX9_strip_3 12 rfl rfl)
theorem dX9_strip_82 : decode cX9_strip 82 = .ok (.istore_n 2, 1) := dk_61 (dk_at dksX9_strip_3 13 rfl rfl)
theorem dX9_strip_83 : decode cX9_strip 83 = .ok (.iload_n 2, 1) := dk_28 (dk_at dksX9_strip_3 14 rfl rfl)
theorem dX9_strip_84 : decode cX9_strip 84 = .ok (.ifCond .eq (-34), 3) := dk_153 255 222 (dk_at dksX9_strip_3 15 rfl rfl)
theorem dX9_strip_87 : decode cX9_strip 87 = .ok (.aload_n 0, 1) := dk_42 (dk_at dksX9_strip_3 18 rfl rfl)
theorem dX9_strip_88 : decode cX9_strip 88 = .ok (.getfield 19, 3) := dk_180 0 19 (dk_at dksX9_strip_3 19 rfl rfl)
theorem dX9_strip_91 : decode cX9_strip 91 = .ok (.aload_n 0, 1) := dk_42 (dk_at dksX9_strip_3 22 rfl rfl)
theorem dX9_strip_92 : decode cX9_strip 92 = .ok (.getfield 10, 3) := dk_180 0 10 (dk_at dksX9_strip_4 0 rfl rfl)
theorem dX9_strip_95 : decode cX9_strip 95 = .ok (.getfield 76, 3) := dk_180 0 76 (dk_at dksX9_strip_4 3 rfl rfl)
theorem dX9_strip_98 : decode cX9_strip 98 = .ok (.putfield 76, 3) := dk_181 0 76 (dk_at dksX9_strip_4 6 rfl rfl)
theorem dX9_strip_101 : decode cX9_strip 101 = .ok (.aload_n 0, 1) := dk_42 (dk_at dksX9_strip_4 9 rfl rfl)
theorem dX9_strip_102 : decode cX9_strip 102 = .ok (.getfield 10, 3) := dk_180 0 10 (dk_at dksX9_strip_4 10 rfl rfl)
theorem dX9_strip_105 : decode cX9_strip 105 = .ok (.aload_n 0, 1) := dk_42 (dk_at dksX9_strip_4 13 rfl rfl)
theorem dX9_strip_106 : decode cX9_strip 106 = .ok (.getfield 19, 3) := dk_180 0 19 (dk_at dksX9_strip_4 14 rfl rfl)
theorem dX9_strip_109 : decode cX9_strip 109 = .ok (.invokevirtual 100, 3) := dk_182 0 100 (dk_at dksX9_strip_4 17 rfl rfl)
theorem dX9_strip_112 : decode cX9_strip 112 = .ok (.aload_n 0, 1) := dk_42 (dk_at dksX9_strip_4 20 rfl rfl)
theorem dX9_strip_113 : decode cX9_strip 113 = .ok (.dup, 1) := dk_89 (dk_at dksX9_strip_4 21 rfl rfl)
theorem dX9_strip_114 : decode cX9_strip 114 = .ok (.getfield 47, 3) := dk_180 0 47 (dk_at dksX9_strip_5 0 rfl rfl)
theorem dX9_strip_117 : decode cX9_strip 117 = .ok (.iconst 1, 1) := dk_4 (dk_at dksX9_strip_5 3 rfl rfl)
theorem dX9_strip_118 : decode cX9_strip 118 = .ok (.isub, 1) := dk_100 (dk_at dksX9_strip_5 4 rfl rfl)
theorem dX9_strip_119 : decode cX9_strip 119 = .ok (.putfield 47, 3) := dk_181 0 47 (dk_at dksX9_strip_5 5 rfl rfl)
theorem dX9_strip_122 : decode cX9_strip 122 = .ok (.goto (-72), 3) := dk_167 255 184 (dk_at dksX9_strip_5 8 rfl rfl)
theorem dX9_strip_125 : decode cX9_strip 125 = .ok (.return_, 1) := dk_177 (dk_at dksX9_strip_5 11 rfl rfl)
abbrev cX9_compare : ByteArray := prog_8_method_11_code
def yX9_compare : MethodName := ⟨RX9, "compare", "(LLibraryDesk$DecimalThing;LLibraryDesk$DecimalThing;)I"⟩
def dkwX9_compare_0 : List UInt8 := [42, 43, 44, 182, 0, 122, 42, 180, 0, 10, 42, 180, 0, 16, 184, 0, 136, 172]
abbrev dktX9_compare_0 : List UInt8 := dkwX9_compare_0 ++ []
theorem dksX9_compare_0 : cX9_compare.data.toList.drop 0 = dktX9_compare_0 := by decide +kernel
theorem dX9_compare_0 : decode cX9_compare 0 = .ok (.aload_n 0, 1) := dk_42 (dk_at dksX9_compare_0 0 rfl rfl)
theorem dX9_compare_1 : decode cX9_compare 1 = .ok (.aload_n 1, 1) := dk_43 (dk_at dksX9_compare_0 1 rfl rfl)
theorem dX9_compare_2 : decode cX9_compare 2 = .ok (.aload_n 2, 1) := dk_44 (dk_at dksX9_compare_0 2 rfl rfl)
theorem dX9_compare_3 : decode cX9_compare 3 = .ok (.invokevirtual 122, 3) := dk_182 0 122 (dk_at dksX9_compare_0 3 rfl rfl)
theorem dX9_compare_6 : decode cX9_compare 6 = .ok (.aload_n 0, 1) := dk_42 (dk_at dksX9_compare_0 6 rfl rfl)
theorem dX9_compare_7 : decode cX9_compare 7 = .ok (.getfield 10, 3) := dk_180 0 10 (dk_at dksX9_compare_0 7 rfl rfl)
theorem dX9_compare_10 : decode cX9_compare 10 = .ok (.aload_n 0, 1) := dk_42 (dk_at dksX9_compare_0 10 rfl rfl)
theorem dX9_compare_11 : decode cX9_compare 11 = .ok (.getfield 16, 3) := dk_180 0 16 (dk_at dksX9_compare_0 11 rfl rfl)
theorem dX9_compare_14 : decode cX9_compare 14 = .ok (.invokestatic 136, 3) := dk_184 0 136 (dk_at dksX9_compare_0 14 rfl rfl)
theorem dX9_compare_17 : decode cX9_compare 17 = .ok (.ireturn, 1) := dk_172 (dk_at dksX9_compare_0 17 rfl rfl)
theorem q516 : (Jvm.Cond.initialized "LibraryDesk$Decimals") ∈ lw_all := lw_g (lw_at lw_m1 9 rfl) rfl
theorem q782 : (Jvm.Cond.fieldLinkNest "LibraryDesk$Decimals" (76 : Nat) "LibraryDesk$Big" "less" "Z" "LibraryDesk") ∈ lw_tbl := lw_at lw_m2 35 rfl
theorem q792 : (Jvm.Cond.fieldLinkNest "LibraryDesk$Decimals" (66 : Nat) "LibraryDesk$Reckone\x72" "quotient" "LLibraryDesk$Big;" "LibraryDesk") ∈ lw_tbl := lw_at lw_m2 45 rfl
theorem q794 : (Jvm.Cond.fieldLinkNest "LibraryDesk$Decimals" (55 : Nat) "LibraryDesk$Reckone\x72" "rest" "LLibraryDesk$Big;" "LibraryDesk") ∈ lw_tbl := lw_at lw_m2 47 rfl
theorem q822 : (Jvm.Cond.instantiable "LibraryDesk$Decimals" (7 : Nat)) ∈ lw_all := lw_g (lw_at lw_m2 75 rfl) rfl
theorem q824 : (Jvm.Cond.instanceMethod ({ cls := "LibraryDesk$Decimals", name := "<init>", desc := "(LLibraryDesk$Reckoner;)V" } : Jvm.MethodName)) ∈ lw_all := lw_g (lw_at lw_m2 77 rfl) rfl
theorem q825 : (Jvm.Cond.code ({ cls := "LibraryDesk$Decimals", name := "<init>", desc := "(LLibraryDesk$Reckoner;)V" } : Jvm.MethodName) prog_8_method_1_code (2 : Nat) (Option.none : Option Jvm.ClassFile.FieldType)) ∈ lw_all := lw_g (lw_at lw_m2 78 rfl) rfl
theorem q826 : (Jvm.Cond.methodLink "LibraryDesk$Decimals" (1 : Nat) ({ cls := "java/lang/Object", name := "<init>", desc := "()V" } : Jvm.MethodName)) ∈ lw_all := lw_g (lw_at lw_m2 79 rfl) rfl
theorem q827 : (Jvm.Cond.classLink "LibraryDesk$Decimals" (7 : Nat) "LibraryDesk$Big") ∈ lw_all := lw_g (lw_at lw_m2 80 rfl) rfl
theorem q828 : (Jvm.Cond.methodLinkNest "LibraryDesk$Decimals" (9 : Nat) ({ cls := "LibraryDesk$Big", name := "<init>", desc := "()V" } : Jvm.MethodName) "LibraryDesk") ∈ lw_tbl := lw_at lw_m2 81 rfl
theorem q829 : (Jvm.Cond.fieldLink "LibraryDesk$Decimals" (28 : Nat) "LibraryDesk$Decimals" "\x72" "LLibraryDesk$Reckoner;") ∈ lw_all := lw_g (lw_at lw_m2 82 rfl) rfl
theorem q830 : (Jvm.Cond.fieldLink "LibraryDesk$Decimals" (10 : Nat) "LibraryDesk$Decimals" "a" "LLibraryDesk$Big;") ∈ lw_all := lw_g (lw_at lw_m2 83 rfl) rfl
theorem q831 : (Jvm.Cond.fieldLink "LibraryDesk$Decimals" (16 : Nat) "LibraryDesk$Decimals" "b" "LLibraryDesk$Big;") ∈ lw_all := lw_g (lw_at lw_m2 84 rfl) rfl
theorem q832 : (Jvm.Cond.fieldLink "LibraryDesk$Decimals" (19 : Nat) "LibraryDesk$Decimals" "made" "LLibraryDesk$Big;") ∈ lw_all := lw_g (lw_at lw_m2 85 rfl) rfl
theorem q833 : (Jvm.Cond.fieldLink "LibraryDesk$Decimals" (22 : Nat) "LibraryDesk$Decimals" "ten" "LLibraryDesk$Big;") ∈ lw_all := lw_g (lw_at lw_m2 86 rfl) rfl
theorem q834 : (Jvm.Cond.fieldLink "LibraryDesk$Decimals" (25 : Nat) "LibraryDesk$Decimals" "unit" "LLibraryDesk$Big;") ∈ lw_all := lw_g (lw_at lw_m2 87 rfl) rfl
theorem q835 : (Jvm.Cond.fieldLink "LibraryDesk$Decimals" (47 : Nat) "LibraryDesk$Decimals" "scale" "I") ∈ lw_all := lw_g (lw_at lw_m2 88 rfl) rfl
theorem q836 : (Jvm.Cond.laysFinal "LibraryDesk$Decimals" "LibraryDesk$Decimals" "\x72" "LLibraryDesk$Reckoner;") ∈ lw_all := lw_g (lw_at lw_m2 89 rfl) rfl
theorem q837 : (Jvm.Cond.soleField "LibraryDesk$Decimals" "\x72") ∈ lw_all := lw_g (lw_at lw_m2 90 rfl) rfl
theorem q838 : (Jvm.Cond.laysFinal "LibraryDesk$Decimals" "LibraryDesk$Decimals" "a" "LLibraryDesk$Big;") ∈ lw_all := lw_g (lw_at lw_m2 91 rfl) rfl
theorem q839 : (Jvm.Cond.soleField "LibraryDesk$Decimals" "a") ∈ lw_all := lw_g (lw_at lw_m2 92 rfl) rfl
theorem q840 : (Jvm.Cond.laysFinal "LibraryDesk$Decimals" "LibraryDesk$Decimals" "b" "LLibraryDesk$Big;") ∈ lw_all := lw_g (lw_at lw_m2 93 rfl) rfl
theorem q841 : (Jvm.Cond.soleField "LibraryDesk$Decimals" "b") ∈ lw_all := lw_g (lw_at lw_m2 94 rfl) rfl
theorem q842 : (Jvm.Cond.laysFinal "LibraryDesk$Decimals" "LibraryDesk$Decimals" "made" "LLibraryDesk$Big;") ∈ lw_all := lw_g (lw_at lw_m2 95 rfl) rfl
theorem q843 : (Jvm.Cond.soleField "LibraryDesk$Decimals" "made") ∈ lw_all := lw_g (lw_at lw_m2 96 rfl) rfl
theorem q844 : (Jvm.Cond.laysFinal "LibraryDesk$Decimals" "LibraryDesk$Decimals" "ten" "LLibraryDesk$Big;") ∈ lw_all := lw_g (lw_at lw_m2 97 rfl) rfl
theorem q845 : (Jvm.Cond.soleField "LibraryDesk$Decimals" "ten") ∈ lw_all := lw_g (lw_at lw_m2 98 rfl) rfl
theorem q846 : (Jvm.Cond.laysFinal "LibraryDesk$Decimals" "LibraryDesk$Decimals" "unit" "LLibraryDesk$Big;") ∈ lw_all := lw_g (lw_at lw_m2 99 rfl) rfl
theorem q847 : (Jvm.Cond.soleField "LibraryDesk$Decimals" "unit") ∈ lw_all := lw_g (lw_at lw_m2 100 rfl) rfl
theorem q848 : (Jvm.Cond.lays "LibraryDesk$Decimals" "LibraryDesk$Decimals" "scale" "I") ∈ lw_all := lw_g (lw_at lw_m2 101 rfl) rfl
theorem q849 : (Jvm.Cond.soleField "LibraryDesk$Decimals" "scale") ∈ lw_all := lw_g (lw_at lw_m2 102 rfl) rfl
theorem q850 : (Jvm.Cond.superclass "LibraryDesk$Decimals" "java/lang/Object") ∈ lw_all := lw_g (lw_at lw_m2 103 rfl) rfl
theorem q1764 : (Jvm.Cond.fieldLinkNest "LibraryDesk$Decimals" (48 : Nat) "LibraryDesk$DecimalThing" "value" "LLibraryDesk$Big;" "LibraryDesk") ∈ lw_tbl := lw_at lw_m6 57 rfl
theorem q1767 : (Jvm.Cond.fieldLinkNest "LibraryDesk$Decimals" (41 : Nat) "LibraryDesk$DecimalThing" "scale" "I" "LibraryDesk") ∈ lw_tbl := lw_at lw_m6 60 rfl
theorem q3749 : (Jvm.Cond.privateMethod ({ cls := "LibraryDesk$Decimals", name := "reckon", desc := "(LLibraryDesk$DecimalThing;ILLibraryDesk$DecimalThing;LLibraryDesk$DecimalThing;I)V" } : Jvm.MethodName)) ∈ lw_tbl := lw_at lw_m14 122 rfl
theorem q3750 : (Jvm.Cond.instanceMethod ({ cls := "LibraryDesk$Decimals", name := "reckon", desc := "(LLibraryDesk$DecimalThing;ILLibraryDesk$DecimalThing;LLibraryDesk$DecimalThing;I)V" } : Jvm.MethodName)) ∈ lw_all := lw_g (lw_at lw_m14 123 rfl) rfl
theorem q3751 : (Jvm.Cond.code ({ cls := "LibraryDesk$Decimals", name := "reckon", desc := "(LLibraryDesk$DecimalThing;ILLibraryDesk$DecimalThing;LLibraryDesk$DecimalThing;I)V" } : Jvm.MethodName) prog_8_method_10_code (8 : Nat) (Option.none : Option Jvm.ClassFile.FieldType)) ∈ lw_all := lw_g (lw_at lw_m14 124 rfl) rfl
theorem q3752 : (Jvm.Cond.methodLinkNest "LibraryDesk$Decimals" (118 : Nat) ({ cls := "LibraryDesk", name := "mod", desc := "(II)I" } : Jvm.MethodName) "LibraryDesk") ∈ lw_tbl := lw_at lw_m14 125 rfl
theorem q3753 : (Jvm.Cond.methodLink "LibraryDesk$Decimals" (122 : Nat) ({ cls := "LibraryDesk$Decimals", name := "align", desc := "(LLibraryDesk$DecimalThing;LLibraryDesk$DecimalThing;)V" } : Jvm.MethodName)) ∈ lw_all := lw_g (lw_at lw_m14 126 rfl) rfl
theorem q3754 : (Jvm.Cond.privateMethod ({ cls := "LibraryDesk$Decimals", name := "align", desc := "(LLibraryDesk$DecimalThing;LLibraryDesk$DecimalThing;)V" } : Jvm.MethodName)) ∈ lw_tbl := lw_at lw_m14 127 rfl
theorem q3755 : (Jvm.Cond.instanceMethod ({ cls := "LibraryDesk$Decimals", name := "align", desc := "(LLibraryDesk$DecimalThing;LLibraryDesk$DecimalThing;)V" } : Jvm.MethodName)) ∈ lw_all := lw_g (lw_at lw_m14 128 rfl) rfl
theorem q3756 : (Jvm.Cond.code ({ cls := "LibraryDesk$Decimals", name := "align", desc := "(LLibraryDesk$DecimalThing;LLibraryDesk$DecimalThing;)V" } : Jvm.MethodName) prog_8_method_3_code (3 : Nat) (Option.none : Option Jvm.ClassFile.FieldType)) ∈ lw_all := lw_g (lw_at lw_m14 129 rfl) rfl
theorem q3757 : (Jvm.Cond.methodLink "LibraryDesk$Decimals" (51 : Nat) ({ cls := "LibraryDesk$Decimals", name := "raise", desc := "(LLibraryDesk$Big;LLibraryDesk$Big;I)V" } : Jvm.MethodName)) ∈ lw_all := lw_g (lw_at lw_m14 130 rfl) rfl
theorem q3758 : (Jvm.Cond.privateMethod ({ cls := "LibraryDesk$Decimals", name := "raise", desc := "(LLibraryDesk$Big;LLibraryDesk$Big;I)V" } : Jvm.MethodName)) ∈ lw_tbl := lw_at lw_m14 131 rfl
theorem q3759 : (Jvm.Cond.instanceMethod ({ cls := "LibraryDesk$Decimals", name := "raise", desc := "(LLibraryDesk$Big;LLibraryDesk$Big;I)V" } : Jvm.MethodName)) ∈ lw_all := lw_g (lw_at lw_m14 132 rfl) rfl
theorem q3760 : (Jvm.Cond.code ({ cls := "LibraryDesk$Decimals", name := "raise", desc := "(LLibraryDesk$Big;LLibraryDesk$Big;I)V" } : Jvm.MethodName) prog_8_method_2_code (4 : Nat) (Option.none : Option Jvm.ClassFile.FieldType)) ∈ lw_all := lw_g (lw_at lw_m14 133 rfl) rfl
theorem q3761 : (Jvm.Cond.methodLinkNest "LibraryDesk$Decimals" (32 : Nat) ({ cls := "LibraryDesk$Reckone\x72", name := "ten", desc := "(LLibraryDesk$Big;I)V" } : Jvm.MethodName) "LibraryDesk") ∈ lw_tbl := lw_at lw_m14 134 rfl
theorem q3769 : (Jvm.Cond.methodLinkNest "LibraryDesk$Decimals" (37 : Nat) ({ cls := "LibraryDesk$Big", name := "multiply", desc := "(LLibraryDesk$Big;LLibraryDesk$Big;)V" } : Jvm.MethodName) "LibraryDesk") ∈ lw_tbl := lw_at lw_m14 142 rfl
theorem q3770 : (Jvm.Cond.methodLinkNest "LibraryDesk$Decimals" (58 : Nat) ({ cls := "LibraryDesk$Big", name := "add", desc := "(LLibraryDesk$Big;LLibraryDesk$Big;Z)V" } : Jvm.MethodName) "LibraryDesk") ∈ lw_tbl := lw_at lw_m14 143 rfl
theorem q3771 : (Jvm.Cond.methodLinkNest "LibraryDesk$Decimals" (80 : Nat) ({ cls := "LibraryDesk$Big", name := "isZero", desc := "()Z" } : Jvm.MethodName) "LibraryDesk") ∈ lw_tbl := lw_at lw_m14 144 rfl
theorem q3772 : (Jvm.Cond.methodLinkNest "LibraryDesk$Decimals" (84 : Nat) ({ cls := "LibraryDesk", name := "sound", desc := "(Z)V" } : Jvm.MethodName) "LibraryDesk") ∈ lw_tbl := lw_at lw_m14 145 rfl
theorem q3773 : (Jvm.Cond.methodLink "LibraryDesk$Decimals" (126 : Nat) ({ cls := "LibraryDesk$Decimals", name := "ove\x72", desc := "(LLibraryDesk$DecimalThing;LLibraryDesk$DecimalThing;II)V" } : Jvm.MethodName)) ∈ lw_all := lw_g (lw_at lw_m14 146 rfl) rfl
theorem q3774 : (Jvm.Cond.privateMethod ({ cls := "LibraryDesk$Decimals", name := "ove\x72", desc := "(LLibraryDesk$DecimalThing;LLibraryDesk$DecimalThing;II)V" } : Jvm.MethodName)) ∈ lw_tbl := lw_at lw_m14 147 rfl
theorem q3775 : (Jvm.Cond.instanceMethod ({ cls := "LibraryDesk$Decimals", name := "ove\x72", desc := "(LLibraryDesk$DecimalThing;LLibraryDesk$DecimalThing;II)V" } : Jvm.MethodName)) ∈ lw_all := lw_g (lw_at lw_m14 148 rfl) rfl
theorem q3776 : (Jvm.Cond.code ({ cls := "LibraryDesk$Decimals", name := "ove\x72", desc := "(LLibraryDesk$DecimalThing;LLibraryDesk$DecimalThing;II)V" } : Jvm.MethodName) prog_8_method_7_code (6 : Nat) (Option.none : Option Jvm.ClassFile.FieldType)) ∈ lw_all := lw_g (lw_at lw_m14 149 rfl) rfl
theorem q3777 : (Jvm.Cond.methodLink "LibraryDesk$Decimals" (103 : Nat) ({ cls := "LibraryDesk$Decimals", name := "round", desc := "(LLibraryDesk$Big;LLibraryDesk$Big;I)V" } : Jvm.MethodName)) ∈ lw_all := lw_g (lw_at lw_m14 150 rfl) rfl
theorem q3778 : (Jvm.Cond.privateMethod ({ cls := "LibraryDesk$Decimals", name := "round", desc := "(LLibraryDesk$Big;LLibraryDesk$Big;I)V" } : Jvm.MethodName)) ∈ lw_tbl := lw_at lw_m14 151 rfl
theorem q3779 : (Jvm.Cond.instanceMethod ({ cls := "LibraryDesk$Decimals", name := "round", desc := "(LLibraryDesk$Big;LLibraryDesk$Big;I)V" } : Jvm.MethodName)) ∈ lw_all := lw_g (lw_at lw_m14 152 rfl) rfl
theorem q3780 : (Jvm.Cond.code ({ cls := "LibraryDesk$Decimals", name := "round", desc := "(LLibraryDesk$Big;LLibraryDesk$Big;I)V" } : Jvm.MethodName) prog_8_method_5_code (5 : Nat) (Option.none : Option Jvm.ClassFile.FieldType)) ∈ lw_all := lw_g (lw_at lw_m14 153 rfl) rfl
theorem q3781 : (Jvm.Cond.methodLinkNest "LibraryDesk$Decimals" (73 : Nat) ({ cls := "LibraryDesk$Reckone\x72", name := "divide", desc := "(LLibraryDesk$Big;LLibraryDesk$Big;)V" } : Jvm.MethodName) "LibraryDesk") ∈ lw_tbl := lw_at lw_m14 154 rfl
theorem q3782 : (Jvm.Cond.methodLink "LibraryDesk$Decimals" (90 : Nat) ({ cls := "LibraryDesk$Decimals", name := "goesUp", desc := "(IZLLibraryDesk$Big;)Z" } : Jvm.MethodName)) ∈ lw_all := lw_g (lw_at lw_m14 155 rfl) rfl
theorem q3783 : (Jvm.Cond.privateMethod ({ cls := "LibraryDesk$Decimals", name := "goesUp", desc := "(IZLLibraryDesk$Big;)Z" } : Jvm.MethodName)) ∈ lw_tbl := lw_at lw_m14 156 rfl
theorem q3784 : (Jvm.Cond.instanceMethod ({ cls := "LibraryDesk$Decimals", name := "goesUp", desc := "(IZLLibraryDesk$Big;)Z" } : Jvm.MethodName)) ∈ lw_all := lw_g (lw_at lw_m14 157 rfl) rfl
theorem q3785 : (Jvm.Cond.code ({ cls := "LibraryDesk$Decimals", name := "goesUp", desc := "(IZLLibraryDesk$Big;)Z" } : Jvm.MethodName) prog_8_method_4_code (5 : Nat) (Option.some Jvm.ClassFile.FieldType.boolean)) ∈ lw_all := lw_g (lw_at lw_m14 158 rfl) rfl
theorem q3786 : (Jvm.Cond.methodLinkNest "LibraryDesk$Decimals" (62 : Nat) ({ cls := "LibraryDesk$Big", name := "compareSizes", desc := "(LLibraryDesk$Big;LLibraryDesk$Big;)I" } : Jvm.MethodName) "LibraryDesk") ∈ lw_tbl := lw_at lw_m14 159 rfl
theorem q3787 : (Jvm.Cond.methodLinkNest "LibraryDesk$Decimals" (69 : Nat) ({ cls := "LibraryDesk$Big", name := "bit", desc := "(I)Z" } : Jvm.MethodName) "LibraryDesk") ∈ lw_tbl := lw_at lw_m14 160 rfl
theorem q3788 : (Jvm.Cond.constantLong "LibraryDesk$Decimals" (94 : Nat) (-1 : Int64)) ∈ lw_all := lw_g (lw_at lw_m14 161 rfl) rfl
theorem q3789 : (Jvm.Cond.methodLinkNest "LibraryDesk$Decimals" (96 : Nat) ({ cls := "LibraryDesk$Big", name := "set", desc := "(J)V" } : Jvm.MethodName) "LibraryDesk") ∈ lw_tbl := lw_at lw_m14 162 rfl
theorem q3790 : (Jvm.Cond.methodLinkNest "LibraryDesk$Decimals" (100 : Nat) ({ cls := "LibraryDesk$Big", name := "set", desc := "(LLibraryDesk$Big;)V" } : Jvm.MethodName) "LibraryDesk") ∈ lw_tbl := lw_at lw_m14 163 rfl
theorem q3791 : (Jvm.Cond.methodLink "LibraryDesk$Decimals" (110 : Nat) ({ cls := "LibraryDesk$Decimals", name := "toScale", desc := "(LLibraryDesk$DecimalThing;II)V" } : Jvm.MethodName)) ∈ lw_all := lw_g (lw_at lw_m14 164 rfl) rfl
theorem q3792 : (Jvm.Cond.privateMethod ({ cls := "LibraryDesk$Decimals", name := "toScale", desc := "(LLibraryDesk$DecimalThing;II)V" } : Jvm.MethodName)) ∈ lw_tbl := lw_at lw_m14 165 rfl
theorem q3793 : (Jvm.Cond.instanceMethod ({ cls := "LibraryDesk$Decimals", name := "toScale", desc := "(LLibraryDesk$DecimalThing;II)V" } : Jvm.MethodName)) ∈ lw_all := lw_g (lw_at lw_m14 166 rfl) rfl
theorem q3794 : (Jvm.Cond.code ({ cls := "LibraryDesk$Decimals", name := "toScale", desc := "(LLibraryDesk$DecimalThing;II)V" } : Jvm.MethodName) prog_8_method_6_code (4 : Nat) (Option.none : Option Jvm.ClassFile.FieldType)) ∈ lw_all := lw_g (lw_at lw_m14 167 rfl) rfl
theorem q3795 : (Jvm.Cond.methodLink "LibraryDesk$Decimals" (129 : Nat) ({ cls := "LibraryDesk$Decimals", name := "shorten", desc := "(LLibraryDesk$DecimalThing;II)V" } : Jvm.MethodName)) ∈ lw_all := lw_g (lw_at lw_m14 168 rfl) rfl
theorem q3796 : (Jvm.Cond.privateMethod ({ cls := "LibraryDesk$Decimals", name := "shorten", desc := "(LLibraryDesk$DecimalThing;II)V" } : Jvm.MethodName)) ∈ lw_tbl := lw_at lw_m14 169 rfl
theorem q3797 : (Jvm.Cond.instanceMethod ({ cls := "LibraryDesk$Decimals", name := "shorten", desc := "(LLibraryDesk$DecimalThing;II)V" } : Jvm.MethodName)) ∈ lw_all := lw_g (lw_at lw_m14 170 rfl) rfl
theorem q3798 : (Jvm.Cond.code ({ cls := "LibraryDesk$Decimals", name := "shorten", desc := "(LLibraryDesk$DecimalThing;II)V" } : Jvm.MethodName) prog_8_method_8_code (7 : Nat) (Option.none : Option Jvm.ClassFile.FieldType)) ∈ lw_all := lw_g (lw_at lw_m14 171 rfl) rfl
theorem q3799 : (Jvm.Cond.methodLinkNest "LibraryDesk$Decimals" (106 : Nat) ({ cls := "LibraryDesk$Reckone\x72", name := "digits", desc := "(LLibraryDesk$Big;)I" } : Jvm.MethodName) "LibraryDesk") ∈ lw_tbl := lw_at lw_m14 172 rfl
theorem q3806 : (Jvm.Cond.methodLinkNest "LibraryDesk$Decimals" (114 : Nat) ({ cls := "LibraryDesk$Big", name := "ove\x72", desc := "(I)I" } : Jvm.MethodName) "LibraryDesk") ∈ lw_tbl := lw_at lw_m14 179 rfl
theorem q3807 : (Jvm.Cond.methodLink "LibraryDesk$Decimals" (132 : Nat) ({ cls := "LibraryDesk$Decimals", name := "strip", desc := "(LLibraryDesk$DecimalThing;)V" } : Jvm.MethodName)) ∈ lw_all := lw_g (lw_at lw_m14 180 rfl) rfl
theorem q3808 : (Jvm.Cond.privateMethod ({ cls := "LibraryDesk$Decimals", name := "strip", desc := "(LLibraryDesk$DecimalThing;)V" } : Jvm.MethodName)) ∈ lw_tbl := lw_at lw_m14 181 rfl
theorem q3809 : (Jvm.Cond.instanceMethod ({ cls := "LibraryDesk$Decimals", name := "strip", desc := "(LLibraryDesk$DecimalThing;)V" } : Jvm.MethodName)) ∈ lw_all := lw_g (lw_at lw_m14 182 rfl) rfl
theorem q3810 : (Jvm.Cond.code ({ cls := "LibraryDesk$Decimals", name := "strip", desc := "(LLibraryDesk$DecimalThing;)V" } : Jvm.MethodName) prog_8_method_9_code (3 : Nat) (Option.none : Option Jvm.ClassFile.FieldType)) ∈ lw_all := lw_g (lw_at lw_m14 183 rfl) rfl
theorem q3846 : (Jvm.Cond.privateMethod ({ cls := "LibraryDesk$Decimals", name := "compare", desc := "(LLibraryDesk$DecimalThing;LLibraryDesk$DecimalThing;)I" } : Jvm.MethodName)) ∈ lw_tbl := lw_at lw_m14 219 rfl
theorem q3847 : (Jvm.Cond.instanceMethod ({ cls := "LibraryDesk$Decimals", name := "compare", desc := "(LLibraryDesk$DecimalThing;LLibraryDesk$DecimalThing;)I" } : Jvm.MethodName)) ∈ lw_all := lw_g (lw_at lw_m14 220 rfl) rfl
theorem q3848 : (Jvm.Cond.code ({ cls := "LibraryDesk$Decimals", name := "compare", desc := "(LLibraryDesk$DecimalThing;LLibraryDesk$DecimalThing;)I" } : Jvm.MethodName) prog_8_method_11_code (3 : Nat) (Option.some Jvm.ClassFile.FieldType.int)) ∈ lw_all := lw_g (lw_at lw_m14 221 rfl) rfl
theorem q3849 : (Jvm.Cond.methodLinkNest "LibraryDesk$Decimals" (136 : Nat) ({ cls := "LibraryDesk$Big", name := "compare", desc := "(LLibraryDesk$Big;LLibraryDesk$Big;)I" } : Jvm.MethodName) "LibraryDesk") ∈ lw_tbl := lw_at lw_m14 222 rfl
theorem q6115 : (Jvm.Cond.castable "LibraryDesk$Decimals" "java/lang/Object") ∈ lw_tbl := lw_at lw_m24 88 rfl
theorem in_X9 : ∀ w ∈ wsX90, w ∈ lw_all := lw_in wsX90 [836, 838, 840, 842, 844, 846, 848] (by decide +kernel) (by decide +kernel)

/-! LibraryDesk$Numerals -/
set_option maxRecDepth 100000
def RX10 : String := "LibraryDesk$Numerals"
def TX10 : u_T := fun k => match k with
  | 0 => ("LibraryDesk$Numerals", "digits", "[B", true)
  | 1 => ("LibraryDesk$Numerals", "made", "LLibraryDesk$Big;", true)
  | _ => ("LibraryDesk$Numerals", "scale", "I", false)
def tyX10 : Nat → FieldType := fun k => match k with
  | 0 => .array .byte
  | 1 => .object "LibraryDesk$Big"
  | _ => .int
abbrev wsX100 : List Cond := u_ws RX10 TX10 3
theorem nmX10 : ∀ a, a < 3 → ∀ b, b < 3 → a ≠ b → (TX10 a).2.1 ≠ (TX10 b).2.1 := by decide +kernel
theorem tyX10_ok : ∀ k, k < 3 → parseFieldDescriptor (TX10 k).2.2.1 = some (tyX10 k) := by decide +kernel
abbrev cX10_init : ByteArray := prog_18_method_1_code
def yX10_init : MethodName := ⟨RX10, "<init>", "()V"⟩
def dkwX10_init_1 : List UInt8 := [177]
abbrev dktX10_init_1 : List UInt8 := dkwX10_init_1 ++ []
def dkwX10_init_0 : List UInt8 := [42, 183, 0, 1, 42, 17, 8, 152, 188, 8, 181, 0, 7, 42, 187, 0, 13, 89, 183, 0, 15, 181, 0, 16]
abbrev dktX10_init_0 : List UInt8 := dkwX10_init_0 ++ dktX10_init_1
theorem dksX10_init_0 : cX10_init.data.toList.drop 0 = dktX10_init_0 := by decide +kernel
theorem dksX10_init_1 : cX10_init.data.toList.drop 24 = dktX10_init_1 := dk_seg dksX10_init_0 24 rfl rfl
theorem dX10_init_0 : decode cX10_init 0 = .ok (.aload_n 0, 1) := dk_42 (dk_at dksX10_init_0 0 rfl rfl)
theorem dX10_init_1 : decode cX10_init 1 = .ok (.invokespecial 1, 3) := dk_183 0 1 (dk_at dksX10_init_0 1 rfl rfl)
theorem dX10_init_4 : decode cX10_init 4 = .ok (.aload_n 0, 1) := dk_42 (dk_at dksX10_init_0 4 rfl rfl)
theorem dX10_init_5 : decode cX10_init 5 = .ok (.sipush 2200, 3) := dk_17 8 152 (dk_at dksX10_init_0 5 rfl rfl)
theorem dX10_init_8 : decode cX10_init 8 = .ok (.newarray .byte, 2) := dk_188_8 (dk_at dksX10_init_0 8 rfl rfl)
theorem dX10_init_10 : decode cX10_init 10 = .ok (.putfield 7, 3) := dk_181 0 7 (dk_at dksX10_init_0 10 rfl rfl)
theorem dX10_init_13 : decode cX10_init 13 = .ok (.aload_n 0, 1) := dk_42 (dk_at dksX10_init_0 13 rfl rfl)
theorem dX10_init_14 : decode cX10_init 14 = .ok (.new 13, 3) := dk_187 0 13 (dk_at dksX10_init_0 14 rfl rfl)
theorem dX10_init_17 : decode cX10_init 17 = .ok (.dup, 1) := dk_89 (dk_at dksX10_init_0 17 rfl rfl)
theorem dX10_init_18 : decode cX10_init 18 = .ok (.invokespecial 15, 3) := dk_183 0 15 (dk_at dksX10_init_0 18 rfl rfl)
theorem dX10_init_21 : decode cX10_init 21 = .ok (.putfield 16, 3) := dk_181 0 16 (dk_at dksX10_init_0 21 rfl rfl)
theorem dX10_init_24 : decode cX10_init 24 = .ok (.return_, 1) := dk_177 (dk_at dksX10_init_1 0 rfl rfl)
abbrev cX10_readWhole : ByteArray := prog_18_method_3_code
def yX10_readWhole : MethodName := ⟨RX10, "readWhole", "([BII)V"⟩
def dkwX10_readWhole_5 : List UInt8 := [3, 181, 0, 36, 42, 180, 0, 16, 182, 0, 40, 177]
abbrev dktX10_readWhole_5 : List UInt8 := dkwX10_readWhole_5 ++ []
def dkwX10_readWhole_4 : List UInt8 := [187, 0, 27, 89, 21, 4, 183, 0, 29, 191, 42, 180, 0, 16, 21, 5, 4, 160, 0, 7, 4, 167, 0, 4]
abbrev dktX10_readWhole_4 : List UInt8 := dkwX10_readWhole_4 ++ dktX10_readWhole_5
def dkwX10_readWhole_3 : List UInt8 := [42, 180, 0, 16, 29, 21, 6, 182, 0, 32, 132, 4, 1, 167, 255, 201, 21, 4, 21, 5, 160, 0, 13]
abbrev dktX10_readWhole_3 : List UInt8 := dkwX10_readWhole_3 ++ dktX10_readWhole_4
def dkwX10_readWhole_2 : List UInt8 := [162, 0, 14, 21, 4, 21, 5, 100, 17, 2, 88, 160, 0, 13, 187, 0, 27, 89, 21, 4, 183, 0, 29, 191]
abbrev dktX10_readWhole_2 : List UInt8 := dkwX10_readWhole_2 ++ dktX10_readWhole_3
def dkwX10_readWhole_1 : List UInt8 := [180, 0, 16, 182, 0, 20, 21, 4, 28, 162, 0, 55, 43, 21, 4, 51, 184, 0, 23, 54, 6, 21, 6, 29]
abbrev dktX10_readWhole_1 : List UInt8 := dkwX10_readWhole_1 ++ dktX10_readWhole_2
def dkwX10_readWhole_0 : List UInt8 := [28, 158, 0, 15, 43, 3, 51, 16, 45, 160, 0, 7, 4, 167, 0, 4, 3, 54, 4, 21, 4, 54, 5, 42]
abbrev dktX10_readWhole_0 : List UInt8 := dkwX10_readWhole_0 ++ dktX10_readWhole_1
theorem dksX10_readWhole_0 : cX10_readWhole.data.toList.drop 0 = dktX10_readWhole_0 := by decide +kernel
theorem dksX10_readWhole_1 : cX10_readWhole.data.toList.drop 24 = dktX10_readWhole_1 := dk_seg dksX10_readWhole_0 24 rfl rfl
theorem dksX10_readWhole_2 : cX10_readWhole.data.toList.drop 48 = dktX10_readWhole_2 := dk_seg dksX10_readWhole_1 24 rfl rfl
theorem dksX10_readWhole_3 : cX10_readWhole.data.toList.drop 72 = dktX10_readWhole_3 := dk_seg dksX10_readWhole_2 24 rfl rfl
theorem dksX10_readWhole_4 : cX10_readWhole.data.toList.drop 95 = dktX10_readWhole_4 := dk_seg dksX10_readWhole_3 23 rfl rfl
theorem dksX10_readWhole_5 : cX10_readWhole.data.toList.drop 119 = dktX10_readWhole_5 := dk_seg dksX10_readWhole_4 24 rfl rfl
theorem dX10_readWhole_0 : decode cX10_readWhole 0 = .ok (.iload_n 2, 1) := dk_28 (dk_at dksX10_readWhole_0 0 rfl rfl)
theorem dX10_readWhole_1 : decode cX10_readWhole 1 = .ok (.ifCond .le 15, 3) := dk_158 0 15 (dk_at dksX10_readWhole_0 1 rfl rfl)
theorem dX10_readWhole_4 : decode cX10_readWhole 4 = .ok (.aload_n 1, 1) := dk_43 (dk_at dksX10_readWhole_0 4 rfl rfl)
theorem dX10_readWhole_5 : decode cX10_readWhole 5 = .ok (.iconst 0, 1) := dk_3 (dk_at dksX10_readWhole_0 5 rfl rfl)
theorem dX10_readWhole_6 : decode cX10_readWhole 6 = .ok (.baload, 1) := dk_51 (dk_at dksX10_readWhole_0 6 rfl rfl)
theorem dX10_readWhole_7 : decode cX10_readWhole 7 = .ok (.bipush 45, 2) := dk_16 45 (dk_at dksX10_readWhole_0 7 rfl rfl)
theorem dX10_readWhole_9 : decode cX10_readWhole 9 = .ok (.if_icmp .ne 7, 3) := dk_160 0 7 (dk_at dksX10_readWhole_0 9 rfl rfl)
theorem dX10_readWhole_12 : decode cX10_readWhole 12 = .ok (.iconst 1, 1) := dk_4 (dk_at dksX10_readWhole_0 12 rfl rfl)
theorem dX10_readWhole_13 : decode cX10_readWhole 13 = .ok (.goto 4, 3) := dk_167 0 4 (dk_at dksX10_readWhole_0 13 rfl rfl)
theorem dX10_readWhole_16 : decode cX10_readWhole 16 = .ok (.iconst 0, 1) := dk_3 (dk_at dksX10_readWhole_0 16 rfl rfl)
theorem dX10_readWhole_17 : decode cX10_readWhole 17 = .ok (.istore 4, 2) := dk_54 4 (dk_at dksX10_readWhole_0 17 rfl rfl)
theorem dX10_readWhole_19 : decode cX10_readWhole 19 = .ok (.iload 4, 2) := dk_21 4 (dk_at dksX10_readWhole_0 19 rfl rfl)
theorem dX10_readWhole_21 : decode cX10_readWhole 21 = .ok (.istore 5, 2) := dk_54 5 (dk_at dksX10_readWhole_0 21 rfl rfl)
theorem dX10_readWhole_23 : decode cX10_readWhole 23 = .ok (.aload_n 0, 1) := dk_42 (dk_at dksX10_readWhole_0 23 rfl rfl)
theorem dX10_readWhole_24 : decode cX10_readWhole 24 = .ok (.getfield 16, 3) := dk_180 0 16 (dk_at dksX10_readWhole_1 0 rfl rfl)
theorem dX10_readWhole_27 : decode cX10_readWhole 27 = .ok (.invokevirtual 20, 3) := dk_182 0 20 (dk_at dksX10_readWhole_1 3 rfl rfl)
theorem dX10_readWhole_30 : decode cX10_readWhole 30 = .ok (.iload 4, 2) := dk_21 4 (dk_at dksX10_readWhole_1 6 rfl rfl)
theorem dX10_readWhole_32 : decode cX10_readWhole 32 = .ok (.iload_n 2, 1) := dk_28 (dk_at dksX10_readWhole_1 8 rfl rfl)
theorem dX10_readWhole_33 : decode cX10_readWhole 33 = .ok (.if_icmp .ge 55, 3) := dk_162 0 55 (dk_at dksX10_readWhole_1 9 rfl rfl)
theorem dX10_readWhole_36 : decode cX10_readWhole 36 = .ok (.aload_n 1, 1) := dk_43 (dk_at dksX10_readWhole_1 12 rfl rfl)
theorem dX10_readWhole_37 : decode cX10_readWhole 37 = .ok (.iload 4, 2) := dk_21 4 (dk_at dksX10_readWhole_1 13 rfl rfl)
theorem dX10_readWhole_39 : decode cX10_readWhole 39 = .ok (.baload, 1) := dk_51 (dk_at dksX10_readWhole_1 15 rfl rfl)
theorem dX10_readWhole_40 : decode cX10_readWhole 40 = .ok (.invokestatic 23, 3) := dk_184 0 23 (dk_at dksX10_readWhole_1 16 rfl rfl)
theorem dX10_readWhole_43 : decode cX10_readWhole 43 = .ok (.istore 6, 2) := dk_54 6 (dk_at dksX10_readWhole_1 19 rfl rfl)
theorem dX10_readWhole_45 : decode cX10_readWhole 45 = .ok (.iload 6, 2) := dk_21 6 (dk_at dksX10_readWhole_1 21 rfl rfl)
theorem dX10_readWhole_47 : decode cX10_readWhole 47 = .ok (.iload_n 3, 1) := dk_29 (dk_at dksX10_readWhole_1 23 rfl rfl)
theorem dX10_readWhole_48 : decode cX10_readWhole 48 = .ok (.if_icmp .ge 14, 3) := dk_162 0 14 (dk_at dksX10_readWhole_2 0 rfl rfl)
theorem dX10_readWhole_51 : decode cX10_readWhole 51 = .ok (.iload 4, 2) := dk_21 4 (dk_at dksX10_readWhole_2 3 rfl rfl)
theorem dX10_readWhole_53 : decode cX10_readWhole 53 = .ok (.iload 5, 2) := dk_21 5 (dk_at dksX10_readWhole_2 5 rfl rfl)
theorem dX10_readWhole_55 : decode cX10_readWhole 55 = .ok (.isub, 1) := dk_100 (dk_at dksX10_readWhole_2 7 rfl rfl)
theorem dX10_readWhole_56 : decode cX10_readWhole 56 = .ok (.sipush 600, 3) := dk_17 2 88 (dk_at dksX10_readWhole_2 8 rfl rfl)
theorem dX10_readWhole_59 : decode cX10_readWhole 59 = .ok (.if_icmp .ne 13, 3) := dk_160 0 13 (dk_at dksX10_readWhole_2 11 rfl rfl)
theorem dX10_readWhole_62 : decode cX10_readWhole 62 = .ok (.new 27, 3) := dk_187 0 27 (dk_at dksX10_readWhole_2 14 rfl rfl)
theorem dX10_readWhole_65 : decode cX10_readWhole 65 = .ok (.dup, 1) := dk_89 (dk_at dksX10_readWhole_2 17 rfl rfl)
theorem dX10_readWhole_66 : decode cX10_readWhole 66 = .ok (.iload 4, 2) := dk_21 4 (dk_at dksX10_readWhole_2 18 rfl rfl)
theorem dX10_readWhole_68 : decode cX10_readWhole 68 = .ok (.invokespecial 29, 3) := dk_183 0 29 (dk_at dksX10_readWhole_2 20 rfl rfl)
theorem dX10_readWhole_71 : decode cX10_readWhole 71 = .ok (.athrow, 1) := dk_191 (dk_at dksX10_readWhole_2 23 rfl rfl)
theorem dX10_readWhole_72 : decode cX10_readWhole 72 = .ok (.aload_n 0, 1) := dk_42 (dk_at dksX10_readWhole_3 0 rfl rfl)
theorem dX10_readWhole_73 : decode cX10_readWhole 73 = .ok (.getfield 16, 3) := dk_180 0 16 (dk_at dksX10_readWhole_3 1 rfl rfl)
theorem dX10_readWhole_76 : decode cX10_readWhole 76 = .ok (.iload_n 3, 1) := dk_29 (dk_at dksX10_readWhole_3 4 rfl rfl)
theorem dX10_readWhole_77 : decode cX10_readWhole 77 = .ok (.iload 6, 2) := dk_21 6 (dk_at dksX10_readWhole_3 5 rfl rfl)
theorem dX10_readWhole_79 : decode cX10_readWhole 79 = .ok (.invokevirtual 32, 3) := dk_182 0 32 (dk_at dksX10_readWhole_3 7 rfl rfl)
theorem dX10_readWhole_82 : decode cX10_readWhole 82 = .ok (.iinc 4 1, 3) := dk_132 4 1 (dk_at dksX10_readWhole_3 10 rfl rfl)
theorem dX10_readWhole_85 : decode cX10_readWhole 85 = .ok (.goto (-55), 3) := dk_167 255 201 (dk_at dksX10_readWhole_3 13 rfl rfl)
theorem dX10_readWhole_88 : decode cX10_readWhole 88 = .ok (.iload 4, 2) := dk_21 4 (dk_at dksX10_readWhole_3 16 rfl rfl)
theorem dX10_readWhole_90 : decode cX10_readWhole 90 = .ok (.iload 5, 2) := dk_21 5 (dk_at dksX10_readWhole_3 18 rfl rfl)
theorem dX10_readWhole_92 : decode cX10_readWhole 92 = .ok (.if_icmp .ne 13, 3) := dk_160 0 13 (dk_at dksX10_readWhole_3 20 rfl rfl)
theorem dX10_readWhole_95 : decode cX10_readWhole 95 = .ok (.new 27, 3) := dk_187 0 27 (dk_at dksX10_readWhole_4 0 rfl rfl)
theorem dX10_readWhole_98 : decode cX10_readWhole 98 = .ok (.dup, 1) := dk_89 (dk_at dksX10_readWhole_4 3 rfl rfl)
theorem dX10_readWhole_99 : decode cX10_readWhole 99 = .ok (.iload 4, 2) := dk_21 4 (dk_at dksX10_readWhole_4 4 rfl rfl)
theorem dX10_readWhole_101 : decode cX10_readWhole 101 = .ok (.invokespecial 29, 3) := dk_183 0 29 (dk_at dksX10_readWhole_4 6 rfl rfl)
theorem dX10_readWhole_104 : decode cX10_readWhole 104 = .ok (.athrow, 1) := dk_191 (dk_at dksX10_readWhole_4 9 rfl rfl)
theorem dX10_readWhole_105 : decode cX10_readWhole 105 = .ok (.aload_n 0, 1) := dk_42 (dk_at dksX10_readWhole_4 10 rfl rfl)
theorem dX10_readWhole_106 : decode cX10_readWhole 106 = .ok (.getfield 16, 3) := dk_180 0 16 (dk_at dksX10_readWhole_4 11 rfl rfl)
theorem dX10_readWhole_109 : decode cX10_readWhole 109 = .ok (.iload 5, 2) := dk_21 5 (dk_at dksX10_readWhole_4 14 rfl rfl)
theorem dX10_readWhole_111 : decode cX10_readWhole 111 = .ok (.iconst 1, 1) := dk_4 (dk_at dksX10_readWhole_4 16 rfl rfl)
theorem dX10_readWhole_112 : decode cX10_readWhole 112 = .ok (.if_icmp .ne 7, 3) := dk_160 0 7 (dk_at dksX10_readWhole_4 17 rfl rfl)
theorem dX10_readWhole_115 : decode cX10_readWhole 115 = .ok (.iconst 1, 1) := dk_4 (dk_at dksX10_readWhole_4 20 rfl rfl)
theorem dX10_readWhole_116 : decode cX10_readWhole 116 = .ok (.goto 4, 3) := dk_167 0 4 (dk_at dksX10_readWhole_4 21 rfl rfl)
theorem dX10_readWhole_119 : decode cX10_readWhole 119 = .ok (.iconst 0, 1) := dk_3 (dk_at dksX10_readWhole_5 0 rfl rfl)
theorem dX10_readWhole_120 : decode cX10_readWhole 120 = .ok (.putfield 36, 3) := dk_181 0 36 (dk_at dksX10_readWhole_5 1 rfl rfl)
theorem dX10_readWhole_123 : decode cX10_readWhole 123 = .ok (.aload_n 0, 1) := dk_42 (dk_at dksX10_readWhole_5 4 rfl rfl)
theorem dX10_readWhole_124 : decode cX10_readWhole 124 = .ok (.getfield 16, 3) := dk_180 0 16 (dk_at dksX10_readWhole_5 5 rfl rfl)
theorem dX10_readWhole_127 : decode cX10_readWhole 127 = .ok (.invokevirtual 40, 3) := dk_182 0 40 (dk_at dksX10_readWhole_5 8 rfl rfl)
theorem dX10_readWhole_130 : decode cX10_readWhole 130 = .ok (.return_, 1) := dk_177 (dk_at dksX10_readWhole_5 11 rfl rfl)
abbrev cX10_worth : ByteArray := prog_18_method_2_code
def yX10_worth : MethodName := ⟨RX10, "worth", "(I)I"⟩
def dkwX10_worth_1 : List UInt8 := [161, 0, 19, 26, 16, 122, 163, 0, 13, 26, 16, 97, 100, 16, 10, 96, 167, 0, 5, 16, 99, 172]
abbrev dktX10_worth_1 : List UInt8 := dkwX10_worth_1 ++ []
def dkwX10_worth_0 : List UInt8 := [26, 16, 48, 161, 0, 16, 26, 16, 57, 163, 0, 10, 26, 16, 48, 100, 167, 0, 27, 26, 16, 97]
abbrev dktX10_worth_0 : List UInt8 := dkwX10_worth_0 ++ dktX10_worth_1
theorem dksX10_worth_0 : cX10_worth.data.toList.drop 0 = dktX10_worth_0 := by decide +kernel
theorem dksX10_worth_1 : cX10_worth.data.toList.drop 22 = dktX10_worth_1 := dk_seg dksX10_worth_0 22 rfl rfl
theorem dX10_worth_0 : decode cX10_worth 0 = .ok (.iload_n 0, 1) := dk_26 (dk_at dksX10_worth_0 0 rfl rfl)
theorem dX10_worth_1 : decode cX10_worth 1 = .ok (.bipush 48, 2) := dk_16 48 (dk_at dksX10_worth_0 1 rfl rfl)
theorem dX10_worth_3 : decode cX10_worth 3 = .ok (.if_icmp .lt 16, 3) := dk_161 0 16 (dk_at dksX10_worth_0 3 rfl rfl)
theorem dX10_worth_6 : decode cX10_worth 6 = .ok (.iload_n 0, 1) := dk_26 (dk_at dksX10_worth_0 6 rfl rfl)
theorem dX10_worth_7 : decode cX10_worth 7 = .ok (.bipush 57, 2) := dk_16 57 (dk_at dksX10_worth_0 7 rfl rfl)
theorem dX10_worth_9 : decode cX10_worth 9 = .ok (.if_icmp .gt 10, 3) := dk_163 0 10 (dk_at dksX10_worth_0 9 rfl rfl)
theorem dX10_worth_12 : decode cX10_worth 12 = .ok (.iload_n 0, 1) := dk_26 (dk_at dksX10_worth_0 12 rfl rfl)
theorem dX10_worth_13 : decode cX10_worth 13 = .ok (.bipush 48, 2) := dk_16 48 (dk_at dksX10_worth_0 13 rfl rfl)
theorem dX10_worth_15 : decode cX10_worth 15 = .ok (.isub, 1) := dk_100 (dk_at dksX10_worth_0 15 rfl rfl)
theorem dX10_worth_16 : decode cX10_worth 16 = .ok (.goto 27, 3) := dk_167 0 27 (dk_at dksX10_worth_0 16 rfl rfl)
theorem dX10_worth_19 : decode cX10_worth 19 = .ok (.iload_n 0, 1) := dk_26 (dk_at dksX10_worth_0 19 rfl rfl)
theorem dX10_worth_20 : decode cX10_worth 20 = .ok (.bipush 97, 2) := dk_16 97 (dk_at dksX10_worth_0 20 rfl rfl)
theorem dX10_worth_22 : decode cX10_worth 22 = .ok (.if_icmp .lt 19, 3) := dk_161 0 19 (dk_at dksX10_worth_1 0 rfl rfl)
theorem dX10_worth_25 : decode cX10_worth 25 = .ok (.iload_n 0, 1) := dk_26 (dk_at dksX10_worth_1 3 rfl rfl)
theorem dX10_worth_26 : decode cX10_worth 26 = .ok (.bipush 122, 2) := dk_16 122 (dk_at dksX10_worth_1 4 rfl rfl)
theorem dX10_worth_28 : decode cX10_worth 28 = .ok (.if_icmp .gt 13, 3) := dk_163 0 13 (dk_at dksX10_worth_1 6 rfl rfl)
theorem dX10_worth_31 : decode cX10_worth 31 = .ok (.iload_n 0, 1) := dk_26 (dk_at dksX10_worth_1 9 rfl rfl)
theorem dX10_worth_32 : decode cX10_worth 32 = .ok (.bipush 97, 2) := dk_16 97 (dk_at dksX10_worth_1 10 rfl rfl)
theorem dX10_worth_34 : decode cX10_worth 34 = .ok (.isub, 1) := dk_100 (dk_at dksX10_worth_1 12 rfl rfl)
theorem dX10_worth_35 : decode cX10_worth 35 = .ok (.bipush 10, 2) := dk_16 10 (dk_at dksX10_worth_1 13 rfl rfl)
theorem dX10_worth_37 : decode cX10_worth 37 = .ok (.iadd, 1) := dk_96 (dk_at dksX10_worth_1 15 rfl rfl)
theorem dX10_worth_38 : decode cX10_worth 38 = .ok (.goto 5, 3) := dk_167 0 5 (dk_at dksX10_worth_1 16 rfl rfl)
theorem dX10_worth_41 : decode cX10_worth 41 = .ok (.bipush 99, 2) := dk_16 99 (dk_at dksX10_worth_1 19 rfl rfl)
theorem dX10_worth_43 : decode cX10_worth 43 = .ok (.ireturn, 1) := dk_172 (dk_at dksX10_worth_1 21 rfl rfl)
abbrev cX10_readDecimal : ByteArray := prog_18_method_4_code
def yX10_readDecimal : MethodName := ⟨RX10, "readDecimal", "([BI)V"⟩
def dkwX10_readDecimal_9 : List UInt8 := [21, 4, 4, 160, 0, 7, 4, 167, 0, 4, 3, 181, 0, 36, 42, 180, 0, 16, 182, 0, 40, 177]
abbrev dktX10_readDecimal_9 : List UInt8 := dkwX10_readDecimal_9 ++ []
def dkwX10_readDecimal_8 : List UInt8 := [191, 42, 21, 6, 156, 0, 7, 3, 167, 0, 9, 28, 4, 100, 21, 6, 100, 181, 0, 43, 42, 180, 0, 16]
abbrev dktX10_readDecimal_8 : List UInt8 := dkwX10_readDecimal_8 ++ dktX10_readDecimal_9
def dkwX10_readDecimal_7 : List UInt8 := [167, 255, 123, 21, 5, 153, 0, 11, 21, 6, 28, 4, 100, 160, 0, 12, 187, 0, 27, 89, 28, 183, 0, 29]
abbrev dktX10_readDecimal_7 : List UInt8 := dkwX10_readDecimal_7 ++ dktX10_readDecimal_8
def dkwX10_readDecimal_6 : List UInt8 := [167, 0, 20, 42, 180, 0, 16, 16, 10, 21, 7, 16, 48, 100, 182, 0, 32, 132, 5, 1, 132, 3, 1]
abbrev dktX10_readDecimal_6 : List UInt8 := dkwX10_readDecimal_6 ++ dktX10_readDecimal_7
def dkwX10_readDecimal_5 : List UInt8 := [100, 17, 0, 200, 164, 0, 12, 187, 0, 27, 89, 29, 183, 0, 29, 191, 21, 9, 153, 0, 9, 29, 54, 6]
abbrev dktX10_readDecimal_5 : List UInt8 := dkwX10_readDecimal_5 ++ dktX10_readDecimal_6
def dkwX10_readDecimal_4 : List UInt8 := [153, 0, 31, 21, 8, 153, 0, 35, 21, 5, 17, 1, 44, 159, 0, 18, 21, 6, 155, 0, 22, 29, 21, 6]
abbrev dktX10_readDecimal_4 : List UInt8 := dkwX10_readDecimal_4 ++ dktX10_readDecimal_5
def dkwX10_readDecimal_3 : List UInt8 := [21, 6, 156, 0, 12, 21, 5, 158, 0, 7, 4, 167, 0, 4, 3, 54, 9, 21, 8, 154, 0, 8, 21, 9]
abbrev dktX10_readDecimal_3 : List UInt8 := dkwX10_readDecimal_3 ++ dktX10_readDecimal_4
def dkwX10_readDecimal_2 : List UInt8 := [161, 0, 14, 21, 7, 16, 57, 163, 0, 7, 4, 167, 0, 4, 3, 54, 8, 21, 7, 16, 46, 160, 0, 17]
abbrev dktX10_readDecimal_2 : List UInt8 := dkwX10_readDecimal_2 ++ dktX10_readDecimal_3
def dkwX10_readDecimal_1 : List UInt8 := [2, 54, 6, 42, 180, 0, 16, 182, 0, 20, 29, 28, 162, 0, 134, 43, 29, 51, 54, 7, 21, 7, 16, 48]
abbrev dktX10_readDecimal_1 : List UInt8 := dkwX10_readDecimal_1 ++ dktX10_readDecimal_2
def dkwX10_readDecimal_0 : List UInt8 := [28, 158, 0, 15, 43, 3, 51, 16, 45, 160, 0, 7, 4, 167, 0, 4, 3, 62, 29, 54, 4, 3, 54, 5]
abbrev dktX10_readDecimal_0 : List UInt8 := dkwX10_readDecimal_0 ++ dktX10_readDecimal_1
theorem dksX10_readDecimal_0 : cX10_readDecimal.data.toList.drop 0 = dktX10_readDecimal_0 := by decide +kernel
theorem dksX10_readDecimal_1 : cX10_readDecimal.data.toList.drop 24 = dktX10_readDecimal_1 := dk_seg dksX10_readDecimal_0 24 rfl rfl
theorem dksX10_readDecimal_2 : cX10_readDecimal.data.toList.drop 48 = dktX10_readDecimal_2 := dk_seg dksX10_readDecimal_1 24 rfl rfl
theorem dksX10_readDecimal_3 : cX10_readDecimal.data.toList.drop 72 = dktX10_readDecimal_3 := dk_seg dksX10_readDecimal_2 24 rfl rfl
theorem dksX10_readDecimal_4 : cX10_readDecimal.data.toList.drop 96 = dktX10_readDecimal_4 := dk_seg dksX10_readDecimal_3 24 rfl rfl
theorem dksX10_readDecimal_5 : cX10_readDecimal.data.toList.drop 120 = dktX10_readDecimal_5 := dk_seg dksX10_readDecimal_4 24 rfl rfl
theorem dksX10_readDecimal_6 : cX10_readDecimal.data.toList.drop 144 = dktX10_readDecimal_6 := dk_seg dksX10_readDecimal_5 24 rfl rfl
theorem dksX10_readDecimal_7 : cX10_readDecimal.data.toList.drop 167 = dktX10_readDecimal_7 := dk_seg dksX10_readDecimal_6 23 rfl rfl
theorem dksX10_readDecimal_8 : cX10_readDecimal.data.toList.drop 191 = dktX10_readDecimal_8 := dk_seg dksX10_readDecimal_7 24 rfl rfl
theorem dksX10_readDecimal_9 : cX10_readDecimal.data.toList.drop 215 = dktX10_readDecimal_9 := dk_seg dksX10_readDecimal_8 24 rfl rfl
theorem dX10_readDecimal_0 : decode cX10_readDecimal 0 = .ok (.iload_n 2, 1) := dk_28 (dk_at dksX10_readDecimal_0 0 rfl rfl)
theorem dX10_readDecimal_1 : decode cX10_readDecimal 1 = .ok (.ifCond .le 15, 3) := dk_158 0 15 (dk_at dksX10_readDecimal_0 1 rfl rfl)
theorem dX10_readDecimal_4 : decode cX10_readDecimal 4 = .ok (.aload_n 1, 1) := dk_43 (dk_at dksX10_readDecimal_0 4 rfl rfl)
theorem dX10_readDecimal_5 : decode cX10_readDecimal 5 = .ok (.iconst 0, 1) := dk_3 (dk_at dksX10_readDecimal_0 5 rfl rfl)
theorem dX10_readDecimal_6 : decode cX10_readDecimal 6 = .ok (.baload, 1) := dk_51 (dk_at dksX10_readDecimal_0 6 rfl rfl)
theorem dX10_readDecimal_7 : decode cX10_readDecimal 7 = .ok (.bipush 45, 2) := dk_16 45 (dk_at dksX10_readDecimal_0 7 rfl rfl)
theorem dX10_readDecimal_9 : decode cX10_readDecimal 9 = .ok (.if_icmp .ne 7, 3) := dk_160 0 7 (dk_at dksX10_readDecimal_0 9 rfl rfl)
theorem dX10_readDecimal_12 : decode cX10_readDecimal 12 = .ok (.iconst 1, 1) := dk_4 (dk_at dksX10_readDecimal_0 12 rfl rfl)
theorem dX10_readDecimal_13 : decode cX10_readDecimal 13 = .ok (.goto 4, 3) := dk_167 0 4 (dk_at dksX10_readDecimal_0 13 rfl rfl)
theorem dX10_readDecimal_16 : decode cX10_readDecimal 16 = .ok (.iconst 0, 1) := dk_3 (dk_at dksX10_readDecimal_0 16 rfl rfl)
theorem dX10_readDecimal_17 : decode cX10_readDecimal 17 = .ok (.istore_n 3, 1) := dk_62 (dk_at dksX10_readDecimal_0 17 rfl rfl)
theorem dX10_readDecimal_18 : decode cX10_readDecimal 18 = .ok (.iload_n 3, 1) := dk_29 (dk_at dksX10_readDecimal_0 18 rfl rfl)
theorem dX10_readDecimal_19 : decode cX10_readDecimal 19 = .ok (.istore 4, 2) := dk_54 4 (dk_at dksX10_readDecimal_0 19 rfl rfl)
theorem dX10_readDecimal_21 : decode cX10_readDecimal 21 = .ok (.iconst 0, 1) := dk_3 (dk_at dksX10_readDecimal_0 21 rfl rfl)
theorem dX10_readDecimal_22 : decode cX10_readDecimal 22 = .ok (.istore 5, 2) := dk_54 5 (dk_at dksX10_readDecimal_0 22 rfl rfl)
theorem dX10_readDecimal_24 : decode cX10_readDecimal 24 = .ok (.iconst (-1), 1) := dk_2 (dk_at dksX10_readDecimal_1 0 rfl rfl)
theorem dX10_readDecimal_25 : decode cX10_readDecimal 25 = .ok (.istore 6, 2) := dk_54 6 (dk_at dksX10_readDecimal_1 1 rfl rfl)
theorem dX10_readDecimal_27 : decode cX10_readDecimal 27 = .ok (.aload_n 0, 1) := dk_42 (dk_at dksX10_readDecimal_1 3 rfl rfl)
theorem dX10_readDecimal_28 : decode cX10_readDecimal 28 = .ok (.getfield 16, 3) := dk_180 0 16 (dk_at dksX10_readDecimal_1 4 rfl rfl)
theorem dX10_readDecimal_31 : decode cX10_readDecimal 31 = .ok (.invokevirtual 20, 3) := dk_182 0 20 (dk_at dksX10_readDecimal_1 7 rfl rfl)
theorem dX10_readDecimal_34 : decode cX10_readDecimal 34 = .ok (.iload_n 3, 1) := dk_29 (dk_at dksX10_readDecimal_1 10 rfl rfl)
theorem dX10_readDecimal_35 : decode cX10_readDecimal 35 = .ok (.iload_n 2, 1) := dk_28 (dk_at dksX10_readDecimal_1 11 rfl rfl)
theorem dX10_readDecimal_36 : decode cX10_readDecimal 36 = .ok (.if_icmp .ge 134, 3) := dk_162 0 134 (dk_at dksX10_readDecimal_1 12 rfl rfl)
theorem dX10_readDecimal_39 : decode cX10_readDecimal 39 = .ok (.aload_n 1, 1) := dk_43 (dk_at dksX10_readDecimal_1 15 rfl rfl)
theorem dX10_readDecimal_40 : decode cX10_readDecimal 40 = .ok (.iload_n 3, 1) := dk_29 (dk_at dksX10_readDecimal_1 16 rfl rfl)
theorem dX10_readDecimal_41 : decode cX10_readDecimal 41 = .ok (.baload, 1) := dk_51 (dk_at dksX10_readDecimal_1 17 rfl rfl)
theorem dX10_readDecimal_42 : decode cX10_readDecimal 42 = .ok (.istore 7, 2) := dk_54 7 (dk_at dksX10_readDecimal_1 18 rfl rfl)
theorem dX10_readDecimal_44 : decode cX10_readDecimal 44 = .ok (.iload 7, 2) := dk_21 7 (dk_at dksX10_readDecimal_1 20 rfl rfl)
theorem dX10_readDecimal_46 : decode cX10_readDecimal 46 = .ok (.bipush 48, 2) := dk_16 48 (dk_at dksX10_readDecimal_1 22 rfl rfl)
theorem dX10_readDecimal_48 : decode cX10_readDecimal 48 = .ok (.if_icmp .lt 14, 3) := dk_161 0 14 (dk_at dksX10_readDecimal_2 0 rfl rfl)
theorem dX10_readDecimal_51 : decode cX10_readDecimal 51 = .ok (.iload 7, 2) := dk_21 7 (dk_at dksX10_readDecimal_2 3 rfl rfl)
theorem dX10_readDecimal_53 : decode cX10_readDecimal 53 = .ok (.bipush 57, 2) := dk_16 57 (dk_at dksX10_readDecimal_2 5 rfl rfl)
theorem dX10_readDecimal_55 : decode cX10_readDecimal 55 = .ok (.if_icmp .gt 7, 3) := dk_163 0 7 (dk_at dksX10_readDecimal_2 7 rfl rfl)
theorem dX10_readDecimal_58 : decode cX10_readDecimal 58 = .ok (.iconst 1, 1) := dk_4 (dk_at dksX10_readDecimal_2 10 rfl rfl)
theorem dX10_readDecimal_59 : decode cX10_readDecimal 59 = .ok (.goto 4, 3) := dk_167 0 4 (dk_at dksX10_readDecimal_2 11 rfl rfl)
theorem dX10_readDecimal_62 : decode cX10_readDecimal 62 = .ok (.iconst 0, 1) := dk_3 (dk_at dksX10_readDecimal_2 14 rfl rfl)
theorem dX10_readDecimal_63 : decode cX10_readDecimal 63 = .ok (.istore 8, 2) := dk_54 8 (dk_at dksX10_readDecimal_2 15 rfl rfl)
theorem dX10_readDecimal_65 : decode cX10_readDecimal 65 = .ok (.iload 7, 2) := dk_21 7 (dk_at dksX10_readDecimal_2 17 rfl rfl)
theorem dX10_readDecimal_67 : decode cX10_readDecimal 67 = .ok (.bipush 46, 2) := dk_16 46 (dk_at dksX10_readDecimal_2 19 rfl rfl)
theorem dX10_readDecimal_69 : decode cX10_readDecimal 69 = .ok (.if_icmp .ne 17, 3) := dk_160 0 17 (dk_at dksX10_readDecimal_2 21 rfl rfl)
theorem dX10_readDecimal_72 : decode cX10_readDecimal 72 = .ok (.iload 6, 2) := dk_21 6 (dk_at dksX10_readDecimal_3 0 rfl rfl)
theorem dX10_readDecimal_74 : decode cX10_readDecimal 74 = .ok (.ifCond .ge 12, 3) := dk_156 0 12 (dk_at dksX10_readDecimal_3 2 rfl rfl)
theorem dX10_readDecimal_77 : decode cX10_readDecimal 77 = .ok (.iload 5, 2) := dk_21 5 (dk_at dksX10_readDecimal_3 5 rfl rfl)
theorem dX10_readDecimal_79 : decode cX10_readDecimal 79 = .ok (.ifCond .le 7, 3) := dk_158 0 7 (dk_at dksX10_readDecimal_3 7 rfl rfl)
theorem dX10_readDecimal_82 : decode cX10_readDecimal 82 = .ok (.iconst 1, 1) := dk_4 (dk_at dksX10_readDecimal_3 10 rfl rfl)
theorem dX10_readDecimal_83 : decode cX10_readDecimal 83 = .ok (.goto 4, 3) := dk_167 0 4 (dk_at dksX10_readDecimal_3 11 rfl rfl)
theorem dX10_readDecimal_86 : decode cX10_readDecimal 86 = .ok (.iconst 0, 1) := dk_3 (dk_at dksX10_readDecimal_3 14 rfl rfl)
theorem dX10_readDecimal_87 : decode cX10_readDecimal 87 = .ok (.istore 9, 2) := dk_54 9 (dk_at dksX10_readDecimal_3 15 rfl rfl)
theorem dX10_readDecimal_89 : decode cX10_readDecimal 89 = .ok (.iload 8, 2) := dk_21 8 (dk_at dksX10_readDecimal_3 17 rfl rfl)
theorem dX10_readDecimal_91 : decode cX10_readDecimal 91 = .ok (.ifCond .ne 8, 3) := dk_154 0 8 (dk_at dksX10_readDecimal_3 19 rfl rfl)
theorem dX10_readDecimal_94 : decode cX10_readDecimal 94 = .ok (.iload 9, 2) := dk_21 9 (dk_at dksX10_readDecimal_3 22 rfl rfl)
theorem dX10_readDecimal_96 : decode cX10_readDecimal 96 = .ok (.ifCond .eq 31, 3) := dk_153 0 31 (dk_at dksX10_readDecimal_4 0 rfl rfl)
theorem dX10_readDecimal_99 : decode cX10_readDecimal 99 = .ok (.iload 8, 2) := dk_21 8 (dk_at dksX10_readDecimal_4 3 rfl rfl)
theorem dX10_readDecimal_101 : decode cX10_readDecimal 101 = .ok (.ifCond .eq 35, 3) := dk_153 0 35 (dk_at dksX10_readDecimal_4 5 rfl rfl)
theorem dX10_readDecimal_104 : decode cX10_readDecimal 104 = .ok (.iload 5, 2) := dk_21 5 (dk_at dksX10_readDecimal_4 8 rfl rfl)
theorem dX10_readDecimal_106 : decode cX10_readDecimal 106 = .ok (.sipush 300, 3) := dk_17 1 44 (dk_at dksX10_readDecimal_4 10 rfl rfl)
theorem dX10_readDecimal_109 : decode cX10_readDecimal 109 = .ok (.if_icmp .eq 18, 3) := dk_159 0 18 (dk_at dksX10_readDecimal_4 13 rfl rfl)
theorem dX10_readDecimal_112 : decode cX10_readDecimal 112 = .ok (.iload 6, 2) := dk_21 6 (dk_at dksX10_readDecimal_4 16 rfl rfl)
theorem dX10_readDecimal_114 : decode cX10_readDecimal 114 = .ok (.ifCond .lt 22, 3) := dk_155 0 22 (dk_at dksX10_readDecimal_4 18 rfl rfl)
theorem dX10_readDecimal_117 : decode cX10_readDecimal 117 = .ok (.iload_n 3, 1) := dk_29 (dk_at dksX10_readDecimal_4 21 rfl rfl)
theorem dX10_readDecimal_118 : decode cX10_readDecimal 118 = .ok (.iload 6, 2) := dk_21 6 (dk_at dksX10_readDecimal_4 22 rfl rfl)
theorem dX10_readDecimal_120 : decode cX10_readDecimal 120 = .ok (.isub, 1) := dk_100 (dk_at dksX10_readDecimal_5 0 rfl rfl)
theorem dX10_readDecimal_121 : decode cX10_readDecimal 121 = .ok (.sipush 200, 3) := dk_17 0 200 (dk_at dksX10_readDecimal_5 1 rfl rfl)
theorem dX10_readDecimal_124 : decode cX10_readDecimal 124 = .ok (.if_icmp .le 12, 3) := dk_164 0 12 (dk_at dksX10_readDecimal_5 4 rfl rfl)
theorem dX10_readDecimal_127 : decode cX10_readDecimal 127 = .ok (.new 27, 3) := dk_187 0 27 (dk_at dksX10_readDecimal_5 7 rfl rfl)
theorem dX10_readDecimal_130 : decode cX10_readDecimal 130 = .ok (.dup, 1) := dk_89 (dk_at dksX10_readDecimal_5 10 rfl rfl)
theorem dX10_readDecimal_131 : decode cX10_readDecimal 131 = .ok (.iload_n 3, 1) := dk_29 (dk_at dksX10_readDecimal_5 11 rfl rfl)
theorem dX10_readDecimal_132 : decode cX10_readDecimal 132 = .ok (.invokespecial 29, 3) := dk_183 0 29 (dk_at dksX10_readDecimal_5 12 rfl rfl)
theorem dX10_readDecimal_135 : decode cX10_readDecimal 135 = .ok (.athrow, 1) := dk_191 (dk_at dksX10_readDecimal_5 15 rfl rfl)
theorem dX10_readDecimal_136 : decode cX10_readDecimal 136 = .ok (.iload 9, 2) := dk_21 9 (dk_at dksX10_readDecimal_5 16 rfl rfl)
theorem dX10_readDecimal_138 : decode cX10_readDecimal 138 = .ok (.ifCond .eq 9, 3) := dk_153 0 9 (dk_at dksX10_readDecimal_5 18 rfl rfl)
theorem dX10_readDecimal_141 : decode cX10_readDecimal 141 = .ok (.iload_n 3, 1) := dk_29 (dk_at dksX10_readDecimal_5 21 rfl rfl)
theorem dX10_readDecimal_142 : decode cX10_readDecimal 142 = .ok (.istore 6, 2) := dk_54 6 (dk_at dksX10_readDecimal_5 22 rfl rfl)
theorem dX10_readDecimal_144 : decode cX10_readDecimal 144 = .ok (.goto 20, 3) := dk_167 0 20 (dk_at dksX10_readDecimal_6 0 rfl rfl)
theorem dX10_readDecimal_147 : decode cX10_readDecimal 147 = .ok (.aload_n 0, 1) := dk_42 (dk_at dksX10_readDecimal_6 3 rfl rfl)
theorem dX10_readDecimal_148 : decode cX10_readDecimal 148 = .ok (.getfield 16, 3) := dk_180 0 16 (dk_at dksX10_readDecimal_6 4 rfl rfl)
theorem dX10_readDecimal_151 : decode cX10_readDecimal 151 = .ok (.bipush 10, 2) := dk_16 10 (dk_at dksX10_readDecimal_6 7 rfl rfl)
theorem dX10_readDecimal_153 : decode cX10_readDecimal 153 = .ok (.iload 7, 2) := dk_21 7 (dk_at dksX10_readDecimal_6 9 rfl rfl)
theorem dX10_readDecimal_155 : decode cX10_readDecimal 155 = .ok (.bipush 48, 2) := dk_16 48 (dk_at dksX10_readDecimal_6 11 rfl rfl)
theorem dX10_readDecimal_157 : decode cX10_readDecimal 157 = .ok (.isub, 1) := dk_100 (dk_at dksX10_readDecimal_6 13 rfl rfl)
theorem dX10_readDecimal_158 : decode cX10_readDecimal 158 = .ok (.invokevirtual 32, 3) := dk_182 0 32 (dk_at dksX10_readDecimal_6 14 rfl rfl)
theorem dX10_readDecimal_161 : decode cX10_readDecimal 161 = .ok (.iinc 5 1, 3) := dk_132 5 1 (dk_at dksX10_readDecimal_6 17 rfl rfl)
theorem dX10_readDecimal_164 : decode cX10_readDecimal 164 = .ok (.iinc 3 1, 3) := dk_132 3 1 (dk_at dksX10_readDecimal_6 20 rfl rfl)
theorem dX10_readDecimal_167 : decode cX10_readDecimal 167 = .ok (.goto (-133), 3) := dk_167 255 123 (dk_at dksX10_readDecimal_7 0 rfl rfl)
theorem dX10_readDecimal_170 : decode cX10_readDecimal 170 = .ok (.iload 5, 2) := dk_21 5 (dk_at dksX10_readDecimal_7 3 rfl rfl)
theorem dX10_readDecimal_172 : decode cX10_readDecimal 172 = .ok (.ifCond .eq 11, 3) := dk_153 0 11 (dk_at dksX10_readDecimal_7 5 rfl rfl)
theorem dX10_readDecimal_175 : decode cX10_readDecimal 175 = .ok (.iload 6, 2) := dk_21 6 (dk_at dksX10_readDecimal_7 8 rfl rfl)
theorem dX10_readDecimal_177 : decode cX10_readDecimal 177 = .ok (.iload_n 2, 1) := dk_28 (dk_at dksX10_readDecimal_7 10 rfl rfl)
theorem dX10_readDecimal_178 : decode cX10_readDecimal 178 = .ok (.iconst 1, 1) := dk_4 (dk_at dksX10_readDecimal_7 11 rfl rfl)
theorem dX10_readDecimal_179 : decode cX10_readDecimal 179 = .ok (.isub, 1) := dk_100 (dk_at dksX10_readDecimal_7 12 rfl rfl)
theorem dX10_readDecimal_180 : decode cX10_readDecimal 180 = .ok (.if_icmp .ne 12, 3) := dk_160 0 12 (dk_at dksX10_readDecimal_7 13 rfl rfl)
theorem dX10_readDecimal_183 : decode cX10_readDecimal 183 = .ok (.new 27, 3) := dk_187 0 27 (dk_at dksX10_readDecimal_7 16 rfl rfl)
theorem dX10_readDecimal_186 : decode cX10_readDecimal 186 = .ok (.dup, 1) := dk_89 (dk_at dksX10_readDecimal_7 19 rfl rfl)
theorem dX10_readDecimal_187 : decode cX10_readDecimal 187 = .ok (.iload_n 2, 1) := dk_28 (dk_at dksX10_readDecimal_7 20 rfl rfl)
theorem dX10_readDecimal_188 : decode cX10_readDecimal 188 = .ok (.invokespecial 29, 3) := dk_183 0 29 (dk_at dksX10_readDecimal_7 21 rfl rfl)
theorem dX10_readDecimal_191 : decode cX10_readDecimal 191 = .ok (.athrow, 1) := dk_191 (dk_at dksX10_readDecimal_8 0 rfl rfl)
theorem dX10_readDecimal_192 : decode cX10_readDecimal 192 = .ok (.aload_n 0, 1) := dk_42 (dk_at dksX10_readDecimal_8 1 rfl rfl)
theorem dX10_readDecimal_193 : decode cX10_readDecimal 193 = .ok (.iload 6, 2) := dk_21 6 (dk_at dksX10_readDecimal_8 2 rfl rfl)
theorem dX10_readDecimal_195 : decode cX10_readDecimal 195 = .ok (.ifCond .ge 7, 3) := dk_156 0 7 (dk_at dksX10_readDecimal_8 4 rfl rfl)
theorem dX10_readDecimal_198 : decode cX10_readDecimal 198 = .ok (.iconst 0, 1) := dk_3 (dk_at dksX10_readDecimal_8 7 rfl rfl)
theorem dX10_readDecimal_199 : decode cX10_readDecimal 199 = .ok (.goto 9, 3) := dk_167 0 9 (dk_at dksX10_readDecimal_8 8 rfl rfl)
theorem dX10_readDecimal_202 : decode cX10_readDecimal 202 = .ok (.iload_n 2, 1) := dk_28 (dk_at dksX10_readDecimal_8 11 rfl rfl)
theorem dX10_readDecimal_203 : decode cX10_readDecimal 203 = .ok (.iconst 1, 1) := dk_4 (dk_at dksX10_readDecimal_8 12 rfl rfl)
theorem dX10_readDecimal_204 : decode cX10_readDecimal 204 = .ok (.isub, 1) := dk_100 (dk_at dksX10_readDecimal_8 13 rfl rfl)
theorem dX10_readDecimal_205 : decode cX10_readDecimal 205 = .ok (.iload 6, 2) := dk_21 6 (dk_at dksX10_readDecimal_8 14 rfl rfl)
theorem dX10_readDecimal_207 : decode cX10_readDecimal 207 = .ok (.isub, 1) := dk_100 (dk_at dksX10_readDecimal_8 16 rfl rfl)
theorem dX10_readDecimal_208 : decode cX10_readDecimal 208 = .ok (.putfield 43, 3) := dk_181 0 43 (dk_at dksX10_readDecimal_8 17 rfl rfl)
theorem dX10_readDecimal_211 : decode cX10_readDecimal 211 = .ok (.aload_n 0, 1) := dk_42 (dk_at dksX10_readDecimal_8 20 rfl rfl)
theorem dX10_readDecimal_212 : decode cX10_readDecimal 212 = .ok (.getfield 16, 3) := dk_180 0 16 (dk_at dksX10_readDecimal_8 21 rfl rfl)
theorem dX10_readDecimal_215 : decode cX10_readDecimal 215 = .ok (.iload 4, 2) := dk_21 4 (dk_at dksX10_readDecimal_9 0 rfl rfl)
theorem dX10_readDecimal_217 : decode cX10_readDecimal 217 = .ok (.iconst 1, 1) := dk_4 (dk_at dksX10_readDecimal_9 2 rfl rfl)
theorem dX10_readDecimal_218 : decode cX10_readDecimal 218 = .ok (.if_icmp .ne 7, 3) := dk_160 0 7 (dk_at dksX10_readDecimal_9 3 rfl rfl)
theorem dX10_readDecimal_221 : decode cX10_readDecimal 221 = .ok (.iconst 1, 1) := dk_4 (dk_at dksX10_readDecimal_9 6 rfl rfl)
theorem dX10_readDecimal_222 : decode cX10_readDecimal 222 = .ok (.goto 4, 3) := dk_167 0 4 (dk_at dksX10_readDecimal_9 7 rfl rfl)
theorem dX10_readDecimal_225 : decode cX10_readDecimal 225 = .ok (.iconst 0, 1) := dk_3 (dk_at dksX10_readDecimal_9 10 rfl rfl)
theorem dX10_readDecimal_226 : decode cX10_readDecimal 226 = .ok (.putfield 36, 3) := dk_181 0 36 (dk_at dksX10_readDecimal_9 11 rfl rfl)
theorem dX10_readDecimal_229 : decode cX10_readDecimal 229 = .ok (.aload_n 0, 1) := dk_42 (dk_at dksX10_readDecimal_9 14 rfl rfl)
theorem dX10_readDecimal_230 : decode cX10_readDecimal 230 = .ok (.getfield 16, 3) := dk_180 0 16 (dk_at dksX10_readDecimal_9 15 rfl rfl)
theorem dX10_readDecimal_233 : decode cX10_readDecimal 233 = .ok (.invokevirtual 40, 3) := dk_182 0 40 (dk_at dksX10_readDecimal_9 18 rfl rfl)
theorem dX10_readDecimal_236 : decode cX10_readDecimal 236 = .ok (.return_, 1) := dk_177 (dk_at dksX10_readDecimal_9 21 rfl rfl)
abbrev cX10_showWhole : ByteArray := prog_18_method_6_code
def yX10_showWhole : MethodName := ⟨RX10, "showWhole", "(LLibraryDesk$Big;ILLibraryDesk$Out;)V"⟩
def dkwX10_showWhole_2 : List UInt8 := [155, 0, 20, 45, 42, 180, 0, 7, 21, 5, 51, 182, 0, 67, 132, 5, 255, 167, 255, 237, 177]
abbrev dktX10_showWhole_2 : List UInt8 := dkwX10_showWhole_2 ++ []
def dkwX10_showWhole_1 : List UInt8 := [182, 0, 67, 21, 4, 154, 0, 9, 45, 16, 48, 182, 0, 67, 21, 4, 4, 100, 54, 5, 21, 5]
abbrev dktX10_showWhole_1 : List UInt8 := dkwX10_showWhole_1 ++ dktX10_showWhole_2
def dkwX10_showWhole_0 : List UInt8 := [45, 182, 0, 58, 42, 43, 28, 182, 0, 63, 54, 4, 43, 180, 0, 36, 153, 0, 9, 45, 16, 45]
abbrev dktX10_showWhole_0 : List UInt8 := dkwX10_showWhole_0 ++ dktX10_showWhole_1
theorem dksX10_showWhole_0 : cX10_showWhole.data.toList.drop 0 = dktX10_showWhole_0 := by decide +kernel
theorem dksX10_showWhole_1 : cX10_showWhole.data.toList.drop 22 = dktX10_showWhole_1 := dk_seg dksX10_showWhole_0 22 rfl rfl
theorem dksX10_showWhole_2 : cX10_showWhole.data.toList.drop 44 = dktX10_showWhole_2 := dk_seg dksX10_showWhole_1 22 rfl rfl
theorem dX10_showWhole_0 : decode cX10_showWhole 0 = .ok (.aload_n 3, 1) := dk_45 (dk_at dksX10_showWhole_0 0 rfl rfl)
theorem dX10_showWhole_1 : decode cX10_showWhole 1 = .ok (.invokevirtual 58, 3) := dk_182 0 58 (dk_at dksX10_showWhole_0 1 rfl rfl)
theorem dX10_showWhole_4 : decode cX10_showWhole 4 = .ok (.aload_n 0, 1) := dk_42 (dk_at dksX10_showWhole_0 4 rfl rfl)
theorem dX10_showWhole_5 : decode cX10_showWhole 5 = .ok (.aload_n 1, 1) := dk_43 (dk_at dksX10_showWhole_0 5 rfl rfl)
theorem dX10_showWhole_6 : decode cX10_showWhole 6 = .ok (.iload_n 2, 1) := dk_28 (dk_at dksX10_showWhole_0 6 rfl rfl)
theorem dX10_showWhole_7 : decode cX10_showWhole 7 = .ok (.invokevirtual 63, 3) := dk_182 0 63 (dk_at dksX10_showWhole_0 7 rfl rfl)
theorem dX10_showWhole_10 : decode cX10_showWhole 10 = .ok (.istore 4, 2) := dk_54 4 (dk_at dksX10_showWhole_0 10 rfl rfl)
theorem dX10_showWhole_12 : decode cX10_showWhole 12 = .ok (.aload_n 1, 1) := dk_43 (dk_at dksX10_showWhole_0 12 rfl rfl)
theorem dX10_showWhole_13 : decode cX10_showWhole 13 = .ok (.getfield 36, 3) := dk_180 0 36 (dk_at dksX10_showWhole_0 13 rfl rfl)
theorem dX10_showWhole_16 : decode cX10_showWhole 16 = .ok (.ifCond .eq 9, 3) := dk_153 0 9 (dk_at dksX10_showWhole_0 16 rfl rfl)
theorem dX10_showWhole_19 : decode cX10_showWhole 19 = .ok (.aload_n 3, 1) := dk_45 (dk_at dksX10_showWhole_0 19 rfl rfl)
theorem dX10_showWhole_20 : decode cX10_showWhole 20 = .ok (.bipush 45, 2) := dk_16 45 (dk_at dksX10_showWhole_0 20 rfl rfl)
theorem dX10_showWhole_22 : decode cX10_showWhole 22 = .ok (.invokevirtual 67, 3) := dk_182 0 67 (dk_at dksX10_showWhole_1 0 rfl rfl)
theorem dX10_showWhole_25 : decode cX10_showWhole 25 = .ok (.iload 4, 2) := dk_21 4 (dk_at dksX10_showWhole_1 3 rfl rfl)
theorem dX10_showWhole_27 : decode cX10_showWhole 27 = .ok (.ifCond .ne 9, 3) := dk_154 0 9 (dk_at dksX10_showWhole_1 5 rfl rfl)
theorem dX10_showWhole_30 : decode cX10_showWhole 30 = .ok (.aload_n 3, 1) := dk_45 (dk_at dksX10_showWhole_1 8 rfl rfl)
theorem dX10_showWhole_31 : decode cX10_showWhole 31 = .ok (.bipush 48, 2) := dk_16 48 (dk_at dksX10_showWhole_1 9 rfl rfl)
theorem dX10_showWhole_33 : decode cX10_showWhole 33 = .ok (.invokevirtual 67, 3) := dk_182 0 67 (dk_at dksX10_showWhole_1 11 rfl rfl)
theorem dX10_showWhole_36 : decode cX10_showWhole 36 = .ok (.iload 4, 2) := dk_21 4 (dk_at dksX10_showWhole_1 14 rfl rfl)
theorem dX10_showWhole_38 : decode cX10_showWhole 38 = .ok (.iconst 1, 1) := dk_4 (dk_at dksX10_showWhole_1 16 rfl rfl)
theorem dX10_showWhole_39 : decode cX10_showWhole 39 = .ok (.isub, 1) := dk_100 (dk_at dksX10_showWhole_1 17 rfl rfl)
theorem dX10_showWhole_40 : decode cX10_showWhole 40 = .ok (.istore 5, 2) := dk_54 5 (dk_at dksX10_showWhole_1 18 rfl rfl)
theorem dX10_showWhole_42 : decode cX10_showWhole 42 = .ok (.iload 5, 2) := dk_21 5 (dk_at dksX10_showWhole_1 20 rfl rfl)
theorem dX10_showWhole_44 : decode cX10_showWhole 44 = .ok (.ifCond .lt 20, 3) := dk_155 0 20 (dk_at dksX10_showWhole_2 0 rfl rfl)
theorem dX10_showWhole_47 : decode cX10_showWhole 47 = .ok (.aload_n 3, 1) := dk_45 (dk_at dksX10_showWhole_2 3 rfl rfl)
theorem dX10_showWhole_48 : decode cX10_showWhole 48 = .ok (.aload_n 0, 1) := dk_42 (dk_at dksX10_showWhole_2 4 rfl rfl)
theorem dX10_showWhole_49 : decode cX10_showWhole 49 = .ok (.getfield 7, 3) := dk_180 0 7 (dk_at dksX10_showWhole_2 5 rfl rfl)
theorem dX10_showWhole_52 : decode cX10_showWhole 52 = .ok (.iload 5, 2) := dk_21 5 (dk_at dksX10_showWhole_2 8 rfl rfl)
theorem dX10_showWhole_54 : decode cX10_showWhole 54 = .ok (.baload, 1) := dk_51 (dk_at dksX10_showWhole_2 10 rfl rfl)
theorem dX10_showWhole_55 : decode cX10_showWhole 55 = .ok (.invokevirtual 67, 3) := dk_182 0 67 (dk_at dksX10_showWhole_2 11 rfl rfl)
theorem dX10_showWhole_58 : decode cX10_showWhole 58 = .ok (.iinc 5 (-1), 3) := dk_132 5 255 (dk_at dksX10_showWhole_2 14 rfl rfl)
theorem dX10_showWhole_61 : decode cX10_showWhole 61 = .ok (.goto (-19), 3) := dk_167 255 237 (dk_at dksX10_showWhole_2 17 rfl rfl)
theorem dX10_showWhole_64 : decode cX10_showWhole 64 = .ok (.return_, 1) := dk_177 (dk_at dksX10_showWhole_2 20 rfl rfl)
abbrev cX10_split : ByteArray := prog_18_method_5_code
def yX10_split : MethodName := ⟨RX10, "split", "(LLibraryDesk$Big;I)I"⟩
def dkwX10_split_3 : List UInt8 := [132, 3, 1, 167, 255, 203, 29, 172]
abbrev dktX10_split_3 : List UInt8 := dkwX10_split_3 ++ []
def dkwX10_split_2 : List UInt8 := [16, 10, 162, 0, 11, 16, 48, 21, 4, 96, 167, 0, 11, 16, 97, 21, 4, 96, 16, 10, 100, 145, 84]
abbrev dktX10_split_2 : List UInt8 := dkwX10_split_2 ++ dktX10_split_3
def dkwX10_split_1 : List UInt8 := [182, 0, 51, 154, 0, 49, 42, 180, 0, 16, 28, 182, 0, 55, 54, 4, 42, 180, 0, 7, 29, 21, 4]
abbrev dktX10_split_1 : List UInt8 := dkwX10_split_1 ++ dktX10_split_2
def dkwX10_split_0 : List UInt8 := [42, 180, 0, 16, 43, 182, 0, 47, 42, 180, 0, 16, 3, 181, 0, 36, 3, 62, 42, 180, 0, 16]
abbrev dktX10_split_0 : List UInt8 := dkwX10_split_0 ++ dktX10_split_1
theorem dksX10_split_0 : cX10_split.data.toList.drop 0 = dktX10_split_0 := by decide +kernel
theorem dksX10_split_1 : cX10_split.data.toList.drop 22 = dktX10_split_1 := dk_seg dksX10_split_0 22 rfl rfl
theorem dksX10_split_2 : cX10_split.data.toList.drop 45 = dktX10_split_2 := dk_seg dksX10_split_1 23 rfl rfl
theorem dksX10_split_3 : cX10_split.data.toList.drop 68 = dktX10_split_3 := dk_seg dksX10_split_2 23 rfl rfl
theorem dX10_split_0 : decode cX10_split 0 = .ok (.aload_n 0, 1) := dk_42 (dk_at dksX10_split_0 0 rfl rfl)
theorem dX10_split_1 : decode cX10_split 1 = .ok (.getfield 16, 3) := dk_180 0 16 (dk_at dksX10_split_0 1 rfl rfl)
theorem dX10_split_4 : decode cX10_split 4 = .ok (.aload_n 1, 1) := dk_43 (dk_at dksX10_split_0 4 rfl rfl)
theorem dX10_split_5 : decode cX10_split 5 = .ok (.invokevirtual 47, 3) := dk_182 0 47 (dk_at dksX10_split_0 5 rfl rfl)
theorem dX10_split_8 : decode cX10_split 8 = .ok (.aload_n 0, 1) := dk_42 (dk_at dksX10_split_0 8 rfl rfl)
theorem dX10_split_9 : decode cX10_split 9 = .ok (.getfield 16, 3) := dk_180 0 16 (dk_at dksX10_split_0 9 rfl rfl)
theorem dX10_split_12 : decode cX10_split 12 = .ok (.iconst 0, 1) := dk_3 (dk_at dksX10_split_0 12 rfl rfl)
theorem dX10_split_13 : decode cX10_split 13 = .ok (.putfield 36, 3) := dk_181 0 36 (dk_at dksX10_split_0 13 rfl rfl)
theorem dX10_split_16 : decode cX10_split 16 = .ok (.iconst 0, 1) := dk_3 (dk_at dksX10_split_0 16 rfl rfl)
theorem dX10_split_17 : decode cX10_split 17 = .ok (.istore_n 3, 1) := dk_62 (dk_at dksX10_split_0 17 rfl rfl)
theorem dX10_split_18 : decode cX10_split 18 = .ok (.aload_n 0, 1) := dk_42 (dk_at dksX10_split_0 18 rfl rfl)
theorem dX10_split_19 : decode cX10_split 19 = .ok (.getfield 16, 3) := dk_180 0 16 (dk_at dksX10_split_0 19 rfl rfl)
theorem dX10_split_22 : decode cX10_split 22 = .ok (.invokevirtual 51, 3) := dk_182 0 51 (dk_at dksX10_split_1 0 rfl rfl)
theorem dX10_split_25 : decode cX10_split 25 = .ok (.ifCond .ne 49, 3) := dk_154 0 49 (dk_at dksX10_split_1 3 rfl rfl)
theorem dX10_split_28 : decode cX10_split 28 = .ok (.aload_n 0, 1) := dk_42 (dk_at dksX10_split_1 6 rfl rfl)
theorem dX10_split_29 : decode cX10_split 29 = .ok (.getfield 16, 3) := dk_180 0 16 (dk_at dksX10_split_1 7 rfl rfl)
theorem dX10_split_32 : decode cX10_split 32 = .ok (.iload_n 2, 1) := dk_28 (dk_at dksX10_split_1 10 rfl rfl)
theorem dX10_split_33 : decode cX10_split 33 = .ok (.invokevirtual 55, 3) := dk_182 0 55 (dk_at dksX10_split_1 11 rfl rfl)
theorem dX10_split_36 : decode cX10_split 36 = .ok (.istore 4, 2) := dk_54 4 (dk_at dksX10_split_1 14 rfl rfl)
theorem dX10_split_38 : decode cX10_split 38 = .ok (.aload_n 0, 1) := dk_42 (dk_at dksX10_split_1 16 rfl rfl)
theorem dX10_split_39 : decode cX10_split 39 = .ok (.getfield 7, 3) := dk_180 0 7 (dk_at dksX10_split_1 17 rfl rfl)
theorem dX10_split_42 : decode cX10_split 42 = .ok (.iload_n 3, 1) := dk_29 (dk_at dksX10_split_1 20 rfl rfl)
theorem dX10_split_43 : decode cX10_split 43 = .ok (.iload 4, 2) := dk_21 4 (dk_at dksX10_split_1 21 rfl rfl)
theorem dX10_split_45 : decode cX10_split 45 = .ok (.bipush 10, 2) := dk_16 10 (dk_at dksX10_split_2 0 rfl rfl)
theorem dX10_split_47 : decode cX10_split 47 = .ok (.if_icmp .ge 11, 3) := dk_162 0 11 (dk_at dksX10_split_2 2 rfl rfl)
theorem dX10_split_50 : decode cX10_split 50 = .ok (.bipush 48, 2) := dk_16 48 (dk_at dksX10_split_2 5 rfl rfl)
theorem dX10_split_52 : decode cX10_split 52 = .ok (.iload 4, 2) := dk_21 4 (dk_at dksX10_split_2 7 rfl rfl)
theorem dX10_split_54 : decode cX10_split 54 = .ok (.iadd, 1) := dk_96 (dk_at dksX10_split_2 9 rfl rfl)
theorem dX10_split_55 : decode cX10_split 55 = .ok (.goto 11, 3) := dk_167 0 11 (dk_at dksX10_split_2 10 rfl rfl)
theorem dX10_split_58 : decode cX10_split 58 = .ok (.bipush 97, 2) := dk_16 97 (dk_at dksX10_split_2 13 rfl rfl)
theorem dX10_split_60 : decode cX10_split 60 = .ok (.iload 4, 2) := dk_21 4 (dk_at dksX10_split_2 15 rfl rfl)
theorem dX10_split_62 : decode cX10_split 62 = .ok (.iadd, 1) := dk_96 (dk_at dksX10_split_2 17 rfl rfl)
theorem dX10_split_63 : decode cX10_split 63 = .ok (.bipush 10, 2) := dk_16 10 (dk_at dksX10_split_2 18 rfl rfl)
theorem dX10_split_65 : decode cX10_split 65 = .ok (.isub, 1) := dk_100 (dk_at dksX10_split_2 20 rfl rfl)
theorem dX10_split_66 : decode cX10_split 66 = .ok (.i2b, 1) := dk_145 (dk_at dksX10_split_2 21 rfl rfl)
theorem dX10_split_67 : decode cX10_split 67 = .ok (.bastore, 1) := dk_84 (dk_at dksX10_split_2 22 rfl rfl)
theorem dX10_split_68 : decode cX10_split 68 = .ok (.iinc 3 1, 3) := dk_132 3 1 (dk_at dksX10_split_3 0 rfl rfl)
theorem dX10_split_71 : decode cX10_split 71 = .ok (.goto (-53), 3) := dk_167 255 203 (dk_at dksX10_split_3 3 rfl rfl)
theorem dX10_split_74 : decode cX10_split 74 = .ok (.iload_n 3, 1) := dk_29 (dk_at dksX10_split_3 6 rfl rfl)
theorem dX10_split_75 : decode cX10_split 75 = .ok (.ireturn, 1) := dk_172 (dk_at dksX10_split_3 7 rfl rfl)
abbrev cX10_showDecimal : ByteArray := prog_18_method_7_code
def yX10_showDecimal : MethodName := ⟨RX10, "showDecimal", "(LLibraryDesk$DecimalThing;LLibraryDesk$Out;)V"⟩
def dkwX10_showDecimal_6 : List UInt8 := [132, 4, 1, 167, 255, 242, 177]
abbrev dktX10_showDecimal_6 : List UInt8 := dkwX10_showDecimal_6 ++ []
def dkwX10_showDecimal_5 : List UInt8 := [182, 0, 51, 154, 0, 26, 43, 180, 0, 75, 54, 4, 21, 4, 156, 0, 15, 44, 16, 48, 182, 0, 67]
abbrev dktX10_showDecimal_5 : List UInt8 := dkwX10_showDecimal_5 ++ dktX10_showDecimal_6
def dkwX10_showDecimal_4 : List UInt8 := [180, 0, 75, 160, 0, 9, 44, 16, 46, 182, 0, 67, 132, 4, 255, 167, 255, 217, 43, 180, 0, 70]
abbrev dktX10_showDecimal_4 : List UInt8 := dkwX10_showDecimal_4 ++ dktX10_showDecimal_5
def dkwX10_showDecimal_3 : List UInt8 := [155, 0, 40, 44, 42, 180, 0, 7, 21, 4, 51, 182, 0, 67, 21, 4, 158, 0, 18, 21, 4, 43]
abbrev dktX10_showDecimal_3 : List UInt8 := dkwX10_showDecimal_3 ++ dktX10_showDecimal_4
def dkwX10_showDecimal_2 : List UInt8 := [84, 132, 3, 1, 167, 255, 237, 29, 154, 0, 9, 44, 16, 48, 182, 0, 67, 29, 4, 100, 54, 4, 21, 4]
abbrev dktX10_showDecimal_2 : List UInt8 := dkwX10_showDecimal_2 ++ dktX10_showDecimal_3
def dkwX10_showDecimal_1 : List UInt8 := [153, 0, 9, 44, 16, 45, 182, 0, 67, 29, 43, 180, 0, 75, 163, 0, 17, 42, 180, 0, 7, 29, 16, 48]
abbrev dktX10_showDecimal_1 : List UInt8 := dkwX10_showDecimal_1 ++ dktX10_showDecimal_2
def dkwX10_showDecimal_0 : List UInt8 := [44, 182, 0, 58, 42, 43, 180, 0, 70, 16, 10, 182, 0, 63, 62, 43, 180, 0, 70, 180, 0, 36]
abbrev dktX10_showDecimal_0 : List UInt8 := dkwX10_showDecimal_0 ++ dktX10_showDecimal_1
theorem dksX10_showDecimal_0 : cX10_showDecimal.data.toList.drop 0 = dktX10_showDecimal_0 := by decide +kernel
theorem dksX10_showDecimal_1 : cX10_showDecimal.data.toList.drop 22 = dktX10_showDecimal_1 := dk_seg dksX10_showDecimal_0 22 rfl rfl
theorem dksX10_showDecimal_2 : cX10_showDecimal.data.toList.drop 46 = dktX10_showDecimal_2 := dk_seg dksX10_showDecimal_1 24 rfl rfl
theorem dksX10_showDecimal_3 : cX10_showDecimal.data.toList.drop 70 = dktX10_showDecimal_3 := dk_seg dksX10_showDecimal_2 24 rfl rfl
theorem dksX10_showDecimal_4 : cX10_showDecimal.data.toList.drop 92 = dktX10_showDecimal_4 := dk_seg dksX10_showDecimal_3 22 rfl rfl
theorem dksX10_showDecimal_5 : cX10_showDecimal.data.toList.drop 114 = dktX10_showDecimal_5 := dk_seg dksX10_showDecimal_4 22 rfl rfl
theorem dksX10_showDecimal_6 : cX10_showDecimal.data.toList.drop 137 = dktX10_showDecimal_6 := dk_seg dksX10_showDecimal_5 23 rfl rfl
theorem dX10_showDecimal_0 : decode cX10_showDecimal 0 = .ok (.aload_n 2, 1) := dk_44 (dk_at dksX10_showDecimal_0 0 rfl rfl)
theorem dX10_showDecimal_1 : decode cX10_showDecimal 1 = .ok (.invokevirtual 58, 3) := dk_182 0 58 (dk_at dksX10_showDecimal_0 1 rfl rfl)
theorem dX10_showDecimal_4 : decode cX10_showDecimal 4 = .ok (.aload_n 0, 1) := dk_42 (dk_at dksX10_showDecimal_0 4 rfl rfl)
theorem dX10_showDecimal_5 : decode cX10_showDecimal 5 = .ok (.aload_n 1, 1) := dk_43 (dk_at dksX10_showDecimal_0 5 rfl rfl)
theorem dX10_showDecimal_6 : decode cX10_showDecimal 6 = .ok (.getfield 70, 3) := dk_180 0 70 (dk_at dksX10_showDecimal_0 6 rfl rfl)
theorem dX10_showDecimal_9 : decode cX10_showDecimal 9 = .ok (.bipush 10, 2) := dk_16 10 (dk_at dksX10_showDecimal_0 9 rfl rfl)
theorem dX10_showDecimal_11 : decode cX10_showDecimal 11 = .ok (.invokevirtual 63, 3) := dk_182 0 63 (dk_at dksX10_showDecimal_0 11 rfl rfl)
theorem dX10_showDecimal_14 : decode cX10_showDecimal 14 = .ok (.istore_n 3, 1) := dk_62 (dk_at dksX10_showDecimal_0 14 rfl rfl)
theorem dX10_showDecimal_15 : decode cX10_showDecimal 15 = .ok (.aload_n 1, 1) := dk_43 (dk_at dksX10_showDecimal_0 15 rfl rfl)
theorem dX10_showDecimal_16 : decode cX10_showDecimal 16 = .ok (.getfield 70, 3) := dk_180 0 70 (dk_at dksX10_showDecimal_0 16 rfl rfl)
theorem dX10_showDecimal_19 : decode cX10_showDecimal 19 = .ok (.getfield 36, 3) := dk_180 0 36 (dk_at dksX10_showDecimal_0 19 rfl rfl)
theorem dX10_showDecimal_22 : decode cX10_showDecimal 22 = .ok (.ifCond .eq 9, 3) := dk_153 0 9 (dk_at dksX10_showDecimal_1 0 rfl rfl)
theorem dX10_showDecimal_25 : decode cX10_showDecimal 25 = .ok (.aload_n 2, 1) := dk_44 (dk_at dksX10_showDecimal_1 3 rfl rfl)
theorem dX10_showDecimal_26 : decode cX10_showDecimal 26 = .ok (.bipush 45, 2) := dk_16 45 (dk_at dksX10_showDecimal_1 4 rfl rfl)
theorem dX10_showDecimal_28 : decode cX10_showDecimal 28 = .ok (.invokevirtual 67, 3) := dk_182 0 67 (dk_at dksX10_showDecimal_1 6 rfl rfl)
theorem dX10_showDecimal_31 : decode cX10_showDecimal 31 = .ok (.iload_n 3, 1) := dk_29 (dk_at dksX10_showDecimal_1 9 rfl rfl)
theorem dX10_showDecimal_32 : decode cX10_showDecimal 32 = .ok (.aload_n 1, 1) := dk_43 (dk_at dksX10_showDecimal_1 10 rfl rfl)
theorem dX10_showDecimal_33 : decode cX10_showDecimal 33 = .ok (.getfield 75, 3) := dk_180 0 75 (dk_at dksX10_showDecimal_1 11 rfl rfl)
theorem dX10_showDecimal_36 : decode cX10_showDecimal 36 = .ok (.if_icmp .gt 17, 3) := dk_163 0 17 (dk_at dksX10_showDecimal_1 14 rfl rfl)
theorem dX10_showDecimal_39 : decode cX10_showDecimal 39 = .ok (.aload_n 0, 1) := dk_42 (dk_at dksX10_showDecimal_1 17 rfl rfl)
theorem dX10_showDecimal_40 : decode cX10_showDecimal 40 = .ok (.getfield 7, 3) := dk_180 0 7 (dk_at dksX10_showDecimal_1 18 rfl rfl)
theorem dX10_showDecimal_43 : decode cX10_showDecimal 43 = .ok (.iload_n 3, 1) := dk_29 (dk_at dksX10_showDecimal_1 21 rfl rfl)
theorem dX10_showDecimal_44 : decode cX10_showDecimal 44 = .ok (.bipush 48, 2) := dk_16 48 (dk_at dksX10_showDecimal_1 22 rfl rfl)
theorem dX10_showDecimal_46 : decode cX10_showDecimal 46 = .ok (.bastore, 1) := dk_84 (dk_at dksX10_showDecimal_2 0 rfl rfl)
theorem dX10_showDecimal_47 : decode cX10_showDecimal 47 = .ok (.iinc 3 1, 3) := dk_132 3 1 (dk_at dksX10_showDecimal_2 1 rfl rfl)
theorem dX10_showDecimal_50 : decode cX10_showDecimal 50 = .ok (.goto (-19), 3) := dk_167 255 237 (dk_at dksX10_showDecimal_2 4 rfl rfl)
theorem dX10_showDecimal_53 : decode cX10_showDecimal 53 = .ok (.iload_n 3, 1) := dk_29 (dk_at dksX10_showDecimal_2 7 rfl rfl)
theorem dX10_showDecimal_54 : decode cX10_showDecimal 54 = .ok (.ifCond .ne 9, 3) := dk_154 0 9 (dk_at dksX10_showDecimal_2 8 rfl rfl)
theorem dX10_showDecimal_57 : decode cX10_showDecimal 57 = .ok (.aload_n 2, 1) := dk_44 (dk_at dksX10_showDecimal_2 11 rfl rfl)
theorem dX10_showDecimal_58 : decode cX10_showDecimal 58 = .ok (.bipush 48, 2) := dk_16 48 (dk_at dksX10_showDecimal_2 12 rfl rfl)
theorem dX10_showDecimal_60 : decode cX10_showDecimal 60 = .ok (.invokevirtual 67, 3) := dk_182 0 67 (dk_at dksX10_showDecimal_2 14 rfl rfl)
theorem dX10_showDecimal_63 : decode cX10_showDecimal 63 = .ok (.iload_n 3, 1) := dk_29 (dk_at dksX10_showDecimal_2 17 rfl rfl)
theorem dX10_showDecimal_64 : decode cX10_showDecimal 64 = .ok (.iconst 1, 1) := dk_4 (dk_at dksX10_showDecimal_2 18 rfl rfl)
theorem dX10_showDecimal_65 : decode cX10_showDecimal 65 = .ok (.isub, 1) := dk_100 (dk_at dksX10_showDecimal_2 19 rfl rfl)
theorem dX10_showDecimal_66 : decode cX10_showDecimal 66 = .ok (.istore 4, 2) := dk_54 4 (dk_at dksX10_showDecimal_2 20 rfl rfl)
theorem dX10_showDecimal_68 : decode cX10_showDecimal 68 = .ok (.iload 4, 2) := dk_21 4 (dk_at dksX10_showDecimal_2 22 rfl rfl)
theorem dX10_showDecimal_70 : decode cX10_showDecimal 70 = .ok (.ifCond .lt 40, 3) := dk_155 0 40 (dk_at dksX10_showDecimal_3 0 rfl rfl)
theorem dX10_showDecimal_73 : decode cX10_showDecimal 73 = .ok (.aload_n 2, 1) := dk_44 (dk_at dksX10_showDecimal_3 3 rfl rfl)
theorem dX10_showDecimal_74 : decode cX10_showDecimal 74 = .ok (.aload_n 0, 1) := dk_42 (dk_at dksX10_showDecimal_3 4 rfl rfl)
theorem dX10_showDecimal_75 : decode cX10_showDecimal 75 = .ok (.getfield 7, 3) := dk_180 0 7 (dk_at dksX10_showDecimal_3 5 rfl rfl)
theorem dX10_showDecimal_78 : decode cX10_showDecimal 78 = .ok (.iload 4, 2) := dk_21 4 (dk_at dksX10_showDecimal_3 8 rfl rfl)
theorem dX10_showDecimal_80 : decode cX10_showDecimal 80 = .ok (.baload, 1) := dk_51 (dk_at dksX10_showDecimal_3 10 rfl rfl)
theorem dX10_showDecimal_81 : decode cX10_showDecimal 81 = .ok (.invokevirtual 67, 3) := dk_182 0 67 (dk_at dksX10_showDecimal_3 11 rfl rfl)
theorem dX10_showDecimal_84 : decode cX10_showDecimal 84 = .ok (.iload 4, 2) := dk_21 4 (dk_at dksX10_showDecimal_3 14 rfl rfl)
theorem dX10_showDecimal_86 : decode cX10_showDecimal 86 = .ok (.ifCond .le 18, 3) := dk_158 0 18 (dk_at dksX10_showDecimal_3 16 rfl rfl)
theorem dX10_showDecimal_89 : decode cX10_showDecimal 89 = .ok (.iload 4, 2) := dk_21 4 (dk_at dksX10_showDecimal_3 19 rfl rfl)
theorem dX10_showDecimal_91 : decode cX10_showDecimal 91 = .ok (.aload_n 1, 1) := dk_43 (dk_at dksX10_showDecimal_3 21 rfl rfl)
theorem dX10_showDecimal_92 : decode cX10_showDecimal 92 = .ok (.getfield 75, 3) := dk_180 0 75 (dk_at dksX10_showDecimal_4 0 rfl rfl)
theorem dX10_showDecimal_95 : decode cX10_showDecimal 95 = .ok (.if_icmp .ne 9, 3) := dk_160 0 9 (dk_at dksX10_showDecimal_4 3 rfl rfl)
theorem dX10_showDecimal_98 : decode cX10_showDecimal 98 = .ok (.aload_n 2, 1) := dk_44 (dk_at dksX10_showDecimal_4 6 rfl rfl)
theorem dX10_showDecimal_99 : decode cX10_showDecimal 99 = .ok (.bipush 46, 2) := dk_16 46 (dk_at dksX10_showDecimal_4 7 rfl rfl)
theorem dX10_showDecimal_101 : decode cX10_showDecimal 101 = .ok (.invokevirtual 67, 3) := dk_182 0 67 (dk_at dksX10_showDecimal_4 9 rfl rfl)
theorem dX10_showDecimal_104 : decode cX10_showDecimal 104 = .ok (.iinc 4 (-1), 3) := dk_132 4 255 (dk_at dksX10_showDecimal_4 12 rfl rfl)
theorem dX10_showDecimal_107 : decode cX10_showDecimal 107 = .ok (.goto (-39), 3) := dk_167 255 217 (dk_at dksX10_showDecimal_4 15 rfl rfl)
theorem dX10_showDecimal_110 : decode cX10_showDecimal 110 = .ok (.aload_n 1, 1) := dk_43 (dk_at dksX10_showDecimal_4 18 rfl rfl)
theorem dX10_showDecimal_111 : decode cX10_showDecimal 111 = .ok (.getfield 70, 3) := dk_180 0 70 (dk_at dksX10_showDecimal_4 19 rfl rfl)
theorem dX10_showDecimal_114 : decode cX10_showDecimal 114 = .ok (.invokevirtual 51, 3) := dk_182 0 51 (dk_at dksX10_showDecimal_5 0 rfl rfl)
theorem dX10_showDecimal_117 : decode cX10_showDecimal 117 = .ok (.ifCond .ne 26, 3) := dk_154 0 26 (dk_at dksX10_showDecimal_5 3 rfl rfl)
theorem dX10_showDecimal_120 : decode cX10_showDecimal 120 = .ok (.aload_n 1, 1) := dk_43 (dk_at dksX10_showDecimal_5 6 rfl rfl)
theorem dX10_showDecimal_121 : decode cX10_showDecimal 121 = .ok (.getfield 75, 3) := dk_180 0 75 (dk_at dksX10_showDecimal_5 7 rfl rfl)
theorem dX10_showDecimal_124 : decode cX10_showDecimal 124 = .ok (.istore 4, 2) := dk_54 4 (dk_at dksX10_showDecimal_5 10 rfl rfl)
theorem dX10_showDecimal_126 : decode cX10_showDecimal 126 = .ok (.iload 4, 2) := dk_21 4 (dk_at dksX10_showDecimal_5 12 rfl rfl)
theorem dX10_showDecimal_128 : decode cX10_showDecimal 128 = .ok (.ifCond .ge 15, 3) := dk_156 0 15 (dk_at dksX10_showDecimal_5 14 rfl rfl)
theorem dX10_showDecimal_131 : decode cX10_showDecimal 131 = .ok (.aload_n 2, 1) := dk_44 (dk_at dksX10_showDecimal_5 17 rfl rfl)
theorem dX10_showDecimal_132 : decode cX10_showDecimal 132 = .ok (.bipush 48, 2) := dk_16 48 (dk_at dksX10_showDecimal_5 18 rfl rfl)
theorem dX10_showDecimal_134 : decode cX10_showDecimal 134 = .ok (.invokevirtual 67, 3) := dk_182 0 67 (dk_at dksX10_showDecimal_5 20 rfl rfl)
theorem dX10_showDecimal_137 : decode cX10_showDecimal 137 = .ok (.iinc 4 1, 3) := dk_132 4 1 (dk_at dksX10_showDecimal_6 0 rfl rfl)
theorem dX10_showDecimal_140 : decode cX10_showDecimal 140 = .ok (.goto (-14), 3) := dk_167 255 242 (dk_at dksX10_showDecimal_6 3 rfl rfl)
theorem dX10_showDecimal_143 : decode cX10_showDecimal 143 = .ok (.return_, 1) := dk_177 (dk_at dksX10_showDecimal_6 6 rfl rfl)
theorem q517 : (Jvm.Cond.initialized "LibraryDesk$Numerals") ∈ lw_all := lw_g (lw_at lw_m1 10 rfl) rfl
theorem q781 : (Jvm.Cond.fieldLinkNest "LibraryDesk$Numerals" (36 : Nat) "LibraryDesk$Big" "less" "Z" "LibraryDesk") ∈ lw_tbl := lw_at lw_m2 34 rfl
theorem q852 : (Jvm.Cond.instantiable "LibraryDesk$Numerals" (3 : Nat)) ∈ lw_all := lw_g (lw_at lw_m2 105 rfl) rfl
theorem q854 : (Jvm.Cond.instanceMethod ({ cls := "LibraryDesk$Numerals", name := "<init>", desc := "()V" } : Jvm.MethodName)) ∈ lw_all := lw_g (lw_at lw_m2 107 rfl) rfl
theorem q855 : (Jvm.Cond.code ({ cls := "LibraryDesk$Numerals", name := "<init>", desc := "()V" } : Jvm.MethodName) prog_18_method_1_code (1 : Nat) (Option.none : Option Jvm.ClassFile.FieldType)) ∈ lw_all := lw_g (lw_at lw_m2 108 rfl) rfl
theorem q856 : (Jvm.Cond.methodLink "LibraryDesk$Numerals" (1 : Nat) ({ cls := "java/lang/Object", name := "<init>", desc := "()V" } : Jvm.MethodName)) ∈ lw_all := lw_g (lw_at lw_m2 109 rfl) rfl
theorem q857 : (Jvm.Cond.classLink "LibraryDesk$Numerals" (13 : Nat) "LibraryDesk$Big") ∈ lw_all := lw_g (lw_at lw_m2 110 rfl) rfl
theorem q858 : (Jvm.Cond.methodLinkNest "LibraryDesk$Numerals" (15 : Nat) ({ cls := "LibraryDesk$Big", name := "<init>", desc := "()V" } : Jvm.MethodName) "LibraryDesk") ∈ lw_tbl := lw_at lw_m2 111 rfl
theorem q859 : (Jvm.Cond.fieldLink "LibraryDesk$Numerals" (7 : Nat) "LibraryDesk$Numerals" "digits" "[B") ∈ lw_all := lw_g (lw_at lw_m2 112 rfl) rfl
theorem q860 : (Jvm.Cond.fieldLink "LibraryDesk$Numerals" (16 : Nat) "LibraryDesk$Numerals" "made" "LLibraryDesk$Big;") ∈ lw_all := lw_g (lw_at lw_m2 113 rfl) rfl
theorem q862 : (Jvm.Cond.fieldLink "LibraryDesk$Numerals" (43 : Nat) "LibraryDesk$Numerals" "scale" "I") ∈ lw_all := lw_g (lw_at lw_m2 115 rfl) rfl
theorem q864 : (Jvm.Cond.laysFinal "LibraryDesk$Numerals" "LibraryDesk$Numerals" "digits" "[B") ∈ lw_all := lw_g (lw_at lw_m2 117 rfl) rfl
theorem q865 : (Jvm.Cond.soleField "LibraryDesk$Numerals" "digits") ∈ lw_all := lw_g (lw_at lw_m2 118 rfl) rfl
theorem q866 : (Jvm.Cond.laysFinal "LibraryDesk$Numerals" "LibraryDesk$Numerals" "made" "LLibraryDesk$Big;") ∈ lw_all := lw_g (lw_at lw_m2 119 rfl) rfl
theorem q867 : (Jvm.Cond.soleField "LibraryDesk$Numerals" "made") ∈ lw_all := lw_g (lw_at lw_m2 120 rfl) rfl
theorem q868 : (Jvm.Cond.lays "LibraryDesk$Numerals" "LibraryDesk$Numerals" "scale" "I") ∈ lw_all := lw_g (lw_at lw_m2 121 rfl) rfl
theorem q869 : (Jvm.Cond.soleField "LibraryDesk$Numerals" "scale") ∈ lw_all := lw_g (lw_at lw_m2 122 rfl) rfl
theorem q870 : (Jvm.Cond.superclass "LibraryDesk$Numerals" "java/lang/Object") ∈ lw_all := lw_g (lw_at lw_m2 123 rfl) rfl
theorem q1765 : (Jvm.Cond.fieldLinkNest "LibraryDesk$Numerals" (70 : Nat) "LibraryDesk$DecimalThing" "value" "LLibraryDesk$Big;" "LibraryDesk") ∈ lw_tbl := lw_at lw_m6 58 rfl
theorem q1768 : (Jvm.Cond.fieldLinkNest "LibraryDesk$Numerals" (75 : Nat) "LibraryDesk$DecimalThing" "scale" "I" "LibraryDesk") ∈ lw_tbl := lw_at lw_m6 61 rfl
theorem q3858 : (Jvm.Cond.privateMethod ({ cls := "LibraryDesk$Numerals", name := "readWhole", desc := "([BII)V" } : Jvm.MethodName)) ∈ lw_tbl := lw_at lw_m14 231 rfl
theorem q3859 : (Jvm.Cond.instanceMethod ({ cls := "LibraryDesk$Numerals", name := "readWhole", desc := "([BII)V" } : Jvm.MethodName)) ∈ lw_all := lw_g (lw_at lw_m14 232 rfl) rfl
theorem q3860 : (Jvm.Cond.code ({ cls := "LibraryDesk$Numerals", name := "readWhole", desc := "([BII)V" } : Jvm.MethodName) prog_18_method_3_code (7 : Nat) (Option.none : Option Jvm.ClassFile.FieldType)) ∈ lw_all := lw_g (lw_at lw_m14 233 rfl) rfl
theorem q3861 : (Jvm.Cond.methodLinkNest "LibraryDesk$Numerals" (20 : Nat) ({ cls := "LibraryDesk$Big", name := "zero", desc := "()V" } : Jvm.MethodName) "LibraryDesk") ∈ lw_tbl := lw_at lw_m14 234 rfl
theorem q3862 : (Jvm.Cond.methodLink "LibraryDesk$Numerals" (23 : Nat) ({ cls := "LibraryDesk$Numerals", name := "worth", desc := "(I)I" } : Jvm.MethodName)) ∈ lw_all := lw_g (lw_at lw_m14 235 rfl) rfl
theorem q3863 : (Jvm.Cond.static ({ cls := "LibraryDesk$Numerals", name := "worth", desc := "(I)I" } : Jvm.MethodName)) ∈ lw_all := lw_g (lw_at lw_m14 236 rfl) rfl
theorem q3864 : (Jvm.Cond.code ({ cls := "LibraryDesk$Numerals", name := "worth", desc := "(I)I" } : Jvm.MethodName) prog_18_method_2_code (1 : Nat) (Option.some Jvm.ClassFile.FieldType.int)) ∈ lw_all := lw_g (lw_at lw_m14 237 rfl) rfl
theorem q3865 : (Jvm.Cond.classLink "LibraryDesk$Numerals" (27 : Nat) "LibraryDesk$Broken") ∈ lw_all := lw_g (lw_at lw_m14 238 rfl) rfl
theorem q3866 : (Jvm.Cond.methodLinkNest "LibraryDesk$Numerals" (29 : Nat) ({ cls := "LibraryDesk$Broken", name := "<init>", desc := "(I)V" } : Jvm.MethodName) "LibraryDesk") ∈ lw_tbl := lw_at lw_m14 239 rfl
theorem q3867 : (Jvm.Cond.methodLinkNest "LibraryDesk$Numerals" (32 : Nat) ({ cls := "LibraryDesk$Big", name := "times", desc := "(II)V" } : Jvm.MethodName) "LibraryDesk") ∈ lw_tbl := lw_at lw_m15 0 rfl
theorem q3868 : (Jvm.Cond.methodLinkNest "LibraryDesk$Numerals" (40 : Nat) ({ cls := "LibraryDesk$Big", name := "trim", desc := "()V" } : Jvm.MethodName) "LibraryDesk") ∈ lw_tbl := lw_at lw_m15 1 rfl
theorem q3870 : (Jvm.Cond.privateMethod ({ cls := "LibraryDesk$Numerals", name := "readDecimal", desc := "([BI)V" } : Jvm.MethodName)) ∈ lw_tbl := lw_at lw_m15 3 rfl
theorem q3871 : (Jvm.Cond.instanceMethod ({ cls := "LibraryDesk$Numerals", name := "readDecimal", desc := "([BI)V" } : Jvm.MethodName)) ∈ lw_all := lw_g (lw_at lw_m15 4 rfl) rfl
theorem q3872 : (Jvm.Cond.code ({ cls := "LibraryDesk$Numerals", name := "readDecimal", desc := "([BI)V" } : Jvm.MethodName) prog_18_method_4_code (10 : Nat) (Option.none : Option Jvm.ClassFile.FieldType)) ∈ lw_all := lw_g (lw_at lw_m15 5 rfl) rfl
theorem q3883 : (Jvm.Cond.privateMethod ({ cls := "LibraryDesk$Numerals", name := "showWhole", desc := "(LLibraryDesk$Big;ILLibraryDesk$Out;)V" } : Jvm.MethodName)) ∈ lw_tbl := lw_at lw_m15 16 rfl
theorem q3884 : (Jvm.Cond.instanceMethod ({ cls := "LibraryDesk$Numerals", name := "showWhole", desc := "(LLibraryDesk$Big;ILLibraryDesk$Out;)V" } : Jvm.MethodName)) ∈ lw_all := lw_g (lw_at lw_m15 17 rfl) rfl
theorem q3885 : (Jvm.Cond.code ({ cls := "LibraryDesk$Numerals", name := "showWhole", desc := "(LLibraryDesk$Big;ILLibraryDesk$Out;)V" } : Jvm.MethodName) prog_18_method_6_code (6 : Nat) (Option.none : Option Jvm.ClassFile.FieldType)) ∈ lw_all := lw_g (lw_at lw_m15 18 rfl) rfl
theorem q3886 : (Jvm.Cond.methodLinkNest "LibraryDesk$Numerals" (58 : Nat) ({ cls := "LibraryDesk$Out", name := "clea\x72", desc := "()V" } : Jvm.MethodName) "LibraryDesk") ∈ lw_tbl := lw_at lw_m15 19 rfl
theorem q3887 : (Jvm.Cond.methodLink "LibraryDesk$Numerals" (63 : Nat) ({ cls := "LibraryDesk$Numerals", name := "split", desc := "(LLibraryDesk$Big;I)I" } : Jvm.MethodName)) ∈ lw_all := lw_g (lw_at lw_m15 20 rfl) rfl
theorem q3888 : (Jvm.Cond.privateMethod ({ cls := "LibraryDesk$Numerals", name := "split", desc := "(LLibraryDesk$Big;I)I" } : Jvm.MethodName)) ∈ lw_tbl := lw_at lw_m15 21 rfl
theorem q3889 : (Jvm.Cond.instanceMethod ({ cls := "LibraryDesk$Numerals", name := "split", desc := "(LLibraryDesk$Big;I)I" } : Jvm.MethodName)) ∈ lw_all := lw_g (lw_at lw_m15 22 rfl) rfl
theorem q3890 : (Jvm.Cond.code ({ cls := "LibraryDesk$Numerals", name := "split", desc := "(LLibraryDesk$Big;I)I" } : Jvm.MethodName) prog_18_method_5_code (5 : Nat) (Option.some Jvm.ClassFile.FieldType.int)) ∈ lw_all := lw_g (lw_at lw_m15 23 rfl) rfl
theorem q3891 : (Jvm.Cond.methodLinkNest "LibraryDesk$Numerals" (47 : Nat) ({ cls := "LibraryDesk$Big", name := "set", desc := "(LLibraryDesk$Big;)V" } : Jvm.MethodName) "LibraryDesk") ∈ lw_tbl := lw_at lw_m15 24 rfl
theorem q3892 : (Jvm.Cond.methodLinkNest "LibraryDesk$Numerals" (51 : Nat) ({ cls := "LibraryDesk$Big", name := "isZero", desc := "()Z" } : Jvm.MethodName) "LibraryDesk") ∈ lw_tbl := lw_at lw_m15 25 rfl
theorem q3893 : (Jvm.Cond.methodLinkNest "LibraryDesk$Numerals" (55 : Nat) ({ cls := "LibraryDesk$Big", name := "ove\x72", desc := "(I)I" } : Jvm.MethodName) "LibraryDesk") ∈ lw_tbl := lw_at lw_m15 26 rfl
theorem q3894 : (Jvm.Cond.methodLinkNest "LibraryDesk$Numerals" (67 : Nat) ({ cls := "LibraryDesk$Out", name := "add", desc := "(I)V" } : Jvm.MethodName) "LibraryDesk") ∈ lw_tbl := lw_at lw_m15 27 rfl
theorem q3896 : (Jvm.Cond.privateMethod ({ cls := "LibraryDesk$Numerals", name := "showDecimal", desc := "(LLibraryDesk$DecimalThing;LLibraryDesk$Out;)V" } : Jvm.MethodName)) ∈ lw_tbl := lw_at lw_m15 29 rfl
theorem q3897 : (Jvm.Cond.instanceMethod ({ cls := "LibraryDesk$Numerals", name := "showDecimal", desc := "(LLibraryDesk$DecimalThing;LLibraryDesk$Out;)V" } : Jvm.MethodName)) ∈ lw_all := lw_g (lw_at lw_m15 30 rfl) rfl
theorem q3898 : (Jvm.Cond.code ({ cls := "LibraryDesk$Numerals", name := "showDecimal", desc := "(LLibraryDesk$DecimalThing;LLibraryDesk$Out;)V" } : Jvm.MethodName) prog_18_method_7_code (5 : Nat) (Option.none : Option Jvm.ClassFile.FieldType)) ∈ lw_all := lw_g (lw_at lw_m15 31 rfl) rfl
theorem q6116 : (Jvm.Cond.castable "LibraryDesk$Numerals" "java/lang/Object") ∈ lw_tbl := lw_at lw_m24 89 rfl
theorem in_X10 : ∀ w ∈ wsX100, w ∈ lw_all := lw_in wsX100 [864, 866, 868] (by decide +kernel) (by decide +kernel)

/-! LibraryDesk$Streamer -/
set_option maxRecDepth 100000
def RX11 : String := "LibraryDesk$Streame\x72"
def TX11 : u_T := fun k => match k with
  | 0 => ("LibraryDesk$Streame\x72", "w", "LLibraryDesk$Words;", true)
  | 1 => ("LibraryDesk$Streame\x72", "source", "I", false)
  | 2 => ("LibraryDesk$Streame\x72", "sourceA", "I", false)
  | 3 => ("LibraryDesk$Streame\x72", "sourceB", "I", false)
  | 4 => ("LibraryDesk$Streame\x72", "sourceF", "I", false)
  | 5 => ("LibraryDesk$Streame\x72", "sourceN", "I", false)
  | 6 => ("LibraryDesk$Streame\x72", "stage", "[I", true)
  | 7 => ("LibraryDesk$Streame\x72", "function", "[I", true)
  | 8 => ("LibraryDesk$Streame\x72", "numbe\x72", "[I", true)
  | 9 => ("LibraryDesk$Streame\x72", "stages", "I", false)
  | 10 => ("LibraryDesk$Streame\x72", "end", "I", false)
  | 11 => ("LibraryDesk$Streame\x72", "endFunction", "I", false)
  | 12 => ("LibraryDesk$Streame\x72", "endNumbe\x72", "I", false)
  | 13 => ("LibraryDesk$Streame\x72", "readF", "I", false)
  | 14 => ("LibraryDesk$Streame\x72", "readN", "I", false)
  | 15 => ("LibraryDesk$Streame\x72", "called", "I", false)
  | 16 => ("LibraryDesk$Streame\x72", "list", "LLibraryDesk$Places;", false)
  | 17 => ("LibraryDesk$Streame\x72", "map", "LLibraryDesk$Maps;", false)
  | 18 => ("LibraryDesk$Streame\x72", "place", "I", false)
  | 19 => ("LibraryDesk$Streame\x72", "given", "I", false)
  | 20 => ("LibraryDesk$Streame\x72", "moved", "I", false)
  | 21 => ("LibraryDesk$Streame\x72", "element", "I", false)
  | 22 => ("LibraryDesk$Streame\x72", "count", "[I", true)
  | 23 => ("LibraryDesk$Streame\x72", "flag", "[Z", true)
  | 24 => ("LibraryDesk$Streame\x72", "held", "[I", true)
  | 25 => ("LibraryDesk$Streame\x72", "kept", "[I", true)
  | 26 => ("LibraryDesk$Streame\x72", "spare", "[I", true)
  | _ => ("LibraryDesk$Streame\x72", "last", "I", false)
def tyX11 : Nat → FieldType := fun k => match k with
  | 0 => .object "LibraryDesk$Words"
  | 1 => .int
  | 2 => .int
  | 3 => .int
  | 4 => .int
  | 5 => .int
  | 6 => .array .int
  | 7 => .array .int
  | 8 => .array .int
  | 9 => .int
  | 10 => .int
  | 11 => .int
  | 12 => .int
  | 13 => .int
  | 14 => .int
  | 15 => .int
  | 16 => .object "LibraryDesk$Places"
  | 17 => .object "LibraryDesk$Maps"
  | 18 => .int
  | 19 => .int
  | 20 => .int
  | 21 => .int
  | 22 => .array .int
  | 23 => .array .boolean
  | 24 => .array .int
  | 25 => .array .int
  | 26 => .array .int
  | _ => .int
abbrev wsX110 : List Cond := u_ws RX11 TX11 28
set_option maxRecDepth 100000 in
theorem nmX11 : ∀ a, a < 28 → ∀ b, b < 28 → a ≠ b → (TX11 a).2.1 ≠ (TX11 b).2.1 := by decide +kernel
set_option maxRecDepth 100000 in
theorem tyX11_ok : ∀ k, k < 28 → parseFieldDescriptor (TX11 k).2.2.1 = some (tyX11 k) := by decide +kernel
abbrev cX11_init : ByteArray := prog_29_method_1_code
def yX11_init : MethodName := ⟨RX11, "<init>", "()V"⟩
def dkwX11_init_3 : List UInt8 := [42, 17, 7, 208, 188, 10, 181, 0, 44, 177]
abbrev dktX11_init_3 : List UInt8 := dkwX11_init_3 ++ []
def dkwX11_init_2 : List UInt8 := [42, 16, 20, 188, 4, 181, 0, 33, 42, 16, 20, 188, 10, 181, 0, 37, 42, 18, 40, 188, 10, 181, 0, 41]
abbrev dktX11_init_2 : List UInt8 := dkwX11_init_2 ++ dktX11_init_3
def dkwX11_init_1 : List UInt8 := [42, 16, 20, 188, 10, 181, 0, 24, 42, 16, 20, 188, 10, 181, 0, 27, 42, 16, 20, 188, 10, 181, 0, 30]
abbrev dktX11_init_1 : List UInt8 := dkwX11_init_1 ++ dktX11_init_2
def dkwX11_init_0 : List UInt8 := [42, 183, 0, 3, 42, 187, 0, 9, 89, 3, 183, 0, 11, 181, 0, 14, 42, 16, 20, 188, 10, 181, 0, 20]
abbrev dktX11_init_0 : List UInt8 := dkwX11_init_0 ++ dktX11_init_1
theorem dksX11_init_0 : cX11_init.data.toList.drop 0 = dktX11_init_0 := by decide +kernel
theorem dksX11_init_1 : cX11_init.data.toList.drop 24 = dktX11_init_1 := dk_seg dksX11_init_0 24 rfl rfl
theorem dksX11_init_2 : cX11_init.data.toList.drop 48 = dktX11_init_2 := dk_seg dksX11_init_1 24 rfl rfl
theorem dksX11_init_3 : cX11_init.data.toList.drop 72 = dktX11_init_3 := dk_seg dksX11_init_2 24 rfl rfl
theorem dX11_init_0 : decode cX11_init 0 = .ok (.aload_n 0, 1) := dk_42 (dk_at dksX11_init_0 0 rfl rfl)
theorem dX11_init_1 : decode cX11_init 1 = .ok (.invokespecial 3, 3) := dk_183 0 3 (dk_at dksX11_init_0 1 rfl rfl)
theorem dX11_init_4 : decode cX11_init 4 = .ok (.aload_n 0, 1) := dk_42 (dk_at dksX11_init_0 4 rfl rfl)
theorem dX11_init_5 : decode cX11_init 5 = .ok (.new 9, 3) := dk_187 0 9 (dk_at dksX11_init_0 5 rfl rfl)
theorem dX11_init_8 : decode cX11_init 8 = .ok (.dup, 1) := dk_89 (dk_at dksX11_init_0 8 rfl rfl)
theorem dX11_init_9 : decode cX11_init 9 = .ok (.iconst 0, 1) := dk_3 (dk_at dksX11_init_0 9 rfl rfl)
theorem dX11_init_10 : decode cX11_init 10 = .ok (.invokespecial 11, 3) := dk_183 0 11 (dk_at dksX11_init_0 10 rfl rfl)
theorem dX11_init_13 : decode cX11_init 13 = .ok (.putfield 14, 3) := dk_181 0 14 (dk_at dksX11_init_0 13 rfl rfl)
theorem dX11_init_16 : decode cX11_init 16 = .ok (.aload_n 0, 1) := dk_42 (dk_at dksX11_init_0 16 rfl rfl)
theorem dX11_init_17 : decode cX11_init 17 = .ok (.bipush 20, 2) := dk_16 20 (dk_at dksX11_init_0 17 rfl rfl)
theorem dX11_init_19 : decode cX11_init 19 = .ok (.newarray .int, 2) := dk_188_10 (dk_at dksX11_init_0 19 rfl rfl)
theorem dX11_init_21 : decode cX11_init 21 = .ok (.putfield 20, 3) := dk_181 0 20 (dk_at dksX11_init_0 21 rfl rfl)
theorem dX11_init_24 : decode cX11_init 24 = .ok (.aload_n 0, 1) := dk_42 (dk_at dksX11_init_1 0 rfl rfl)
theorem dX11_init_25 : decode cX11_init 25 = .ok (.bipush 20, 2) := dk_16 20 (dk_at dksX11_init_1 1 rfl rfl)
theorem dX11_init_27 : decode cX11_init 27 = .ok (.newarray .int, 2) := dk_188_10 (dk_at dksX11_init_1 3 rfl rfl)
theorem dX11_init_29 : decode cX11_init 29 = .ok (.putfield 24, 3) := dk_181 0 24 (dk_at dksX11_init_1 5 rfl rfl)
theorem dX11_init_32 : decode cX11_init 32 = .ok (.aload_n 0, 1) := dk_42 (dk_at dksX11_init_1 8 rfl rfl)
theorem dX11_init_33 : decode cX11_init 33 = .ok (.bipush 20, 2) := dk_16 20 (dk_at dksX11_init_1 9 rfl rfl)
theorem dX11_init_35 : decode cX11_init 35 = .ok (.newarray .int, 2) := dk_188_10 (dk_at dksX11_init_1 11 rfl rfl)
theorem dX11_init_37 : decode cX11_init 37 = .ok (.putfield 27, 3) := dk_181 0 27 (dk_at dksX11_init_1 13 rfl rfl)
theorem dX11_init_40 : decode cX11_init 40 = .ok (.aload_n 0, 1) := dk_42 (dk_at dksX11_init_1 16 rfl rfl)
theorem dX11_init_41 : decode cX11_init 41 = .ok (.bipush 20, 2) := dk_16 20 (dk_at dksX11_init_1 17 rfl rfl)
theorem dX11_init_43 : decode cX11_init 43 = .ok (.newarray .int, 2) := dk_188_10 (dk_at dksX11_init_1 19 rfl rfl)
theorem dX11_init_45 : decode cX11_init 45 = .ok (.putfield 30, 3) := dk_181 0 30 (dk_at dksX11_init_1 21 rfl rfl)
theorem dX11_init_48 : decode cX11_init 48 = .ok (.aload_n 0, 1) := dk_42 (dk_at dksX11_init_2 0 rfl rfl)
theorem dX11_init_49 : decode cX11_init 49 = .ok (.bipush 20, 2) := dk_16 20 (dk_at dksX11_init_2 1 rfl rfl)
theorem dX11_init_51 : decode cX11_init 51 = .ok (.newarray .boolean, 2) := dk_188_4 (dk_at dksX11_init_2 3 rfl rfl)
theorem dX11_init_53 : decode cX11_init 53 = .ok (.putfield 33, 3) := dk_181 0 33 (dk_at dksX11_init_2 5 rfl rfl)
theorem dX11_init_56 : decode cX11_init 56 = .ok (.aload_n 0, 1) := dk_42 (dk_at dksX11_init_2 8 rfl rfl)
theorem dX11_init_57 : decode cX11_init 57 = .ok (.bipush 20, 2) := dk_16 20 (dk_at dksX11_init_2 9 rfl rfl)
theorem dX11_init_59 : decode cX11_init 59 = .ok (.newarray .int, 2) := dk_188_10 (dk_at dksX11_init_2 11 rfl rfl)
theorem dX11_init_61 : decode cX11_init 61 = .ok (.putfield 37, 3) := dk_181 0 37 (dk_at dksX11_init_2 13 rfl rfl)
theorem dX11_init_64 : decode cX11_init 64 = .ok (.aload_n 0, 1) := dk_42 (dk_at dksX11_init_2 16 rfl rfl)
theorem dX11_init_65 : decode cX11_init 65 = .ok (.ldc 40, 2) := dk_18 40 (dk_at dksX11_init_2 17 rfl rfl)
theorem dX11_init_67 : decode cX11_init 67 = .ok (.newarray .int, 2) := dk_188_10 (dk_at dksX11_init_2 19 rfl rfl)
theorem dX11_init_69 : decode cX11_init 69 = .ok (.putfield 41, 3) := dk_181 0 41 (dk_at dksX11_init_2 21 rfl rfl)
theorem dX11_init_72 : decode cX11_init 72 = .ok (.aload_n 0, 1) := dk_42 (dk_at dksX11_init_3 0 rfl rfl)
theorem dX11_init_73 : decode cX11_init 73 = .ok (.sipush 2000, 3) := dk_17 7 208 (dk_at dksX11_init_3 1 rfl rfl)
theorem dX11_init_76 : decode cX11_init 76 = .ok (.newarray .int, 2) := dk_188_10 (dk_at dksX11_init_3 4 rfl rfl)
theorem dX11_init_78 : decode cX11_init 78 = .ok (.putfield 44, 3) := dk_181 0 44 (dk_at dksX11_init_3 6 rfl rfl)
theorem dX11_init_81 : decode cX11_init 81 = .ok (.return_, 1) := dk_177 (dk_at dksX11_init_3 9 rfl rfl)
abbrev cX11_read : ByteArray := prog_29_method_9_code
def yX11_read : MethodName := ⟨RX11, "read", "([BI)V"⟩
def dkwX11_read_3 : List UInt8 := [154, 0, 11, 42, 180, 0, 14, 182, 0, 73, 191, 177]
abbrev dktX11_read_3 : List UInt8 := dkwX11_read_3 ++ []
def dkwX11_read_2 : List UInt8 := [182, 0, 195, 42, 182, 0, 199, 62, 167, 255, 233, 42, 182, 0, 206, 42, 180, 0, 14, 182, 0, 209]
abbrev dktX11_read_2 : List UInt8 := dkwX11_read_2 ++ dktX11_read_3
def dkwX11_read_1 : List UInt8 := [182, 0, 195, 42, 182, 0, 199, 62, 29, 155, 0, 25, 42, 29, 182, 0, 202, 42, 180, 0, 14, 18, 193]
abbrev dktX11_read_1 : List UInt8 := dkwX11_read_1 ++ dktX11_read_2
def dkwX11_read_0 : List UInt8 := [42, 180, 0, 14, 43, 28, 182, 0, 186, 42, 3, 181, 0, 147, 42, 182, 0, 190, 42, 180, 0, 14, 18, 193]
abbrev dktX11_read_0 : List UInt8 := dkwX11_read_0 ++ dktX11_read_1
theorem dksX11_read_0 : cX11_read.data.toList.drop 0 = dktX11_read_0 := by decide +kernel
theorem dksX11_read_1 : cX11_read.data.toList.drop 24 = dktX11_read_1 := dk_seg dksX11_read_0 24 rfl rfl
theorem dksX11_read_2 : cX11_read.data.toList.drop 47 = dktX11_read_2 := dk_seg dksX11_read_1 23 rfl rfl
theorem dksX11_read_3 : cX11_read.data.toList.drop 69 = dktX11_read_3 := dk_seg dksX11_read_2 22 rfl rfl
theorem dX11_read_0 : decode cX11_read 0 = .ok (.aload_n 0, 1) := dk_42 (dk_at dksX11_read_0 0 rfl rfl)
theorem dX11_read_1 : decode cX11_read 1 = .ok (.getfield 14, 3) := dk_180 0 14 (dk_at dksX11_read_0 1 rfl rfl)
theorem dX11_read_4 : decode cX11_read 4 = .ok (.aload_n 1, 1) := dk_43 (dk_at dksX11_read_0 4 rfl rfl)
theorem dX11_read_5 : decode cX11_read 5 = .ok (.iload_n 2, 1) := dk_28 (dk_at dksX11_read_0 5 rfl rfl)
theorem dX11_read_6 : decode cX11_read 6 = .ok (.invokevirtual 186, 3) := dk_182 0 186 (dk_at dksX11_read_0 6 rfl rfl)
theorem dX11_read_9 : decode cX11_read 9 = .ok (.aload_n 0, 1) := dk_42 (dk_at dksX11_read_0 9 rfl rfl)
theorem dX11_read_10 : decode cX11_read 10 = .ok (.iconst 0, 1) := dk_3 (dk_at dksX11_read_0 10 rfl rfl)
theorem dX11_read_11 : decode cX11_read 11 = .ok (.putfield 147, 3) := dk_181 0 147 (dk_at dksX11_read_0 11 rfl rfl)
theorem dX11_read_14 : decode cX11_read 14 = .ok (.aload_n 0, 1) := dk_42 (dk_at dksX11_read_0 14 rfl rfl)
theorem dX11_read_15 : decode cX11_read 15 = .ok (.invokevirtual 190, 3) := dk_182 0 190 (dk_at dksX11_read_0 15 rfl rfl)
theorem dX11_read_18 : decode cX11_read 18 = .ok (.aload_n 0, 1) := dk_42 (dk_at dksX11_read_0 18 rfl rfl)
theorem dX11_read_19 : decode cX11_read 19 = .ok (.getfield 14, 3) := dk_180 0 14 (dk_at dksX11_read_0 19 rfl rfl)
theorem dX11_read_22 : decode cX11_read 22 = .ok (.ldc 193, 2) := dk_18 193 (dk_at dksX11_read_0 22 rfl rfl)
theorem dX11_read_24 : decode cX11_read 24 = .ok (.invokevirtual 195, 3) := dk_182 0 195 (dk_at dksX11_read_1 0 rfl rfl)
theorem dX11_read_27 : decode cX11_read 27 = .ok (.aload_n 0, 1) := dk_42 (dk_at dksX11_read_1 3 rfl rfl)
theorem dX11_read_28 : decode cX11_read 28 = .ok (.invokevirtual 199, 3) := dk_182 0 199 (dk_at dksX11_read_1 4 rfl rfl)
theorem dX11_read_31 : decode cX11_read 31 = .ok (.istore_n 3, 1) := dk_62 (dk_at dksX11_read_1 7 rfl rfl)
theorem dX11_read_32 : decode cX11_read 32 = .ok (.iload_n 3, 1) := dk_29 (dk_at dksX11_read_1 8 rfl rfl)
theorem dX11_read_33 : decode cX11_read 33 = .ok (.ifCond .lt 25, 3) := dk_155 0 25 (dk_at dksX11_read_1 9 rfl rfl)
theorem dX11_read_36 : decode cX11_read 36 = .ok (.aload_n 0, 1) := dk_42 (dk_at dksX11_read_1 12 rfl rfl)
theorem dX11_read_37 : decode cX11_read 37 = .ok (.iload_n 3, 1) := dk_29 (dk_at dksX11_read_1 13 rfl rfl)
theorem dX11_read_38 : decode cX11_read 38 = .ok (.invokevirtual 202, 3) := dk_182 0 202 (dk_at dksX11_read_1 14 rfl rfl)
theorem dX11_read_41 : decode cX11_read 41 = .ok (.aload_n 0, 1) := dk_42 (dk_at dksX11_read_1 17 rfl rfl)
theorem dX11_read_42 : decode cX11_read 42 = .ok (.getfield 14, 3) := dk_180 0 14 (dk_at dksX11_read_1 18 rfl rfl)
theorem dX11_read_45 : decode cX11_read 45 = .ok (.ldc 193, 2) := dk_18 193 (dk_at dksX11_read_1 21 rfl rfl)
theorem dX11_read_47 : decode cX11_read 47 = .ok (.invokevirtual 195, 3) := dk_182 0 195 (dk_at dksX11_read_2 0 rfl rfl)
theorem dX11_read_50 : decode cX11_read 50 = .ok (.aload_n 0, 1) := dk_42 (dk_at dksX11_read_2 3 rfl rfl)
theorem dX11_read_51 : decode cX11_read 51 = .ok (.invokevirtual 199, 3) := dk_182 0 199 (dk_at dksX11_read_2 4 rfl rfl)
theorem dX11_read_54 : decode cX11_read 54 = .ok (.istore_n 3, 1) := dk_62 (dk_at dksX11_read_2 7 rfl rfl)
theorem dX11_read_55 : decode cX11_read 55 = .ok (.goto (-23), 3) := dk_167 255 233 (dk_at dksX11_read_2 8 rfl rfl)
theorem dX11_read_58 : decode cX11_read 58 = .ok (.aload_n 0, 1) := dk_42 (dk_at dksX11_read_2 11 rfl rfl)
theorem dX11_read_59 : decode cX11_read 59 = .ok (.invokevirtual 206, 3) := dk_182 0 206 (dk_at dksX11_read_2 12 rfl rfl)
theorem dX11_read_62 : decode cX11_read 62 = .ok (.aload_n 0, 1) := dk_42 (dk_at dksX11_read_2 15 rfl rfl)
theorem dX11_read_63 : decode cX11_read 63 = .ok (.getfield 14, 3) := dk_180 0 14 (dk_at dksX11_read_2 16 rfl rfl)
theorem dX11_read_66 : decode cX11_read 66 = .ok (.invokevirtual 209, 3) := dk_182 0 209 (dk_at dksX11_read_2 19 rfl rfl)
theorem dX11_read_69 : decode cX11_read 69 = .ok (.ifCond .ne 11, 3) := dk_154 0 11 (dk_at dksX11_read_3 0 rfl rfl)
theorem dX11_read_72 : decode cX11_read 72 = .ok (.aload_n 0, 1) := dk_42 (dk_at dksX11_read_3 3 rfl rfl)
theorem dX11_read_73 : decode cX11_read 73 = .ok (.getfield 14, 3) := dk_180 0 14 (dk_at dksX11_read_3 4 rfl rfl)
theorem dX11_read_76 : decode cX11_read 76 = .ok (.invokevirtual 73, 3) := dk_182 0 73 (dk_at dksX11_read_3 7 rfl rfl)
theorem dX11_read_79 : decode cX11_read 79 = .ok (.athrow, 1) := dk_191 (dk_at dksX11_read_3 10 rfl rfl)
theorem dX11_read_80 : decode cX11_read 80 = .ok (.return_, 1) := dk_177 (dk_at dksX11_read_3 11 rfl rfl)
abbrev cX11_readSource : ByteArray := prog_29_method_4_code
def yX11_readSource : MethodName := ⟨RX11, "readSource", "()V"⟩
def dkwX11_readSource_8 : List UInt8 := [180, 0, 47, 181, 0, 126, 177]
abbrev dktX11_readSource_8 : List UInt8 := dkwX11_readSource_8 ++ []
def dkwX11_readSource_7 : List UInt8 := [42, 180, 0, 108, 7, 160, 0, 23, 42, 182, 0, 120, 42, 42, 180, 0, 57, 181, 0, 123, 42, 42]
abbrev dktX11_readSource_7 : List UInt8 := dkwX11_readSource_7 ++ dktX11_readSource_8
def dkwX11_readSource_6 : List UInt8 := [182, 0, 111, 181, 0, 114, 42, 180, 0, 108, 154, 0, 14, 42, 42, 180, 0, 14, 182, 0, 80, 181, 0, 117]
abbrev dktX11_readSource_6 : List UInt8 := dkwX11_readSource_6 ++ dktX11_readSource_7
def dkwX11_readSource_5 : List UInt8 := [180, 0, 108, 7, 160, 0, 13, 42, 180, 0, 14, 182, 0, 80, 167, 0, 13, 42, 180, 0, 14, 3, 16, 23]
abbrev dktX11_readSource_5 : List UInt8 := dkwX11_readSource_5 ++ dktX11_readSource_6
def dkwX11_readSource_4 : List UInt8 := [180, 0, 14, 182, 0, 73, 191, 42, 180, 0, 14, 182, 0, 77, 42, 42, 180, 0, 108, 153, 0, 11, 42]
abbrev dktX11_readSource_4 : List UInt8 := dkwX11_readSource_4 ++ dktX11_readSource_5
def dkwX11_readSource_3 : List UInt8 := [18, 106, 182, 0, 64, 153, 0, 7, 7, 167, 0, 4, 2, 181, 0, 108, 42, 180, 0, 108, 156, 0, 11, 42]
abbrev dktX11_readSource_3 : List UInt8 := dkwX11_readSource_3 ++ dktX11_readSource_4
def dkwX11_readSource_2 : List UInt8 := [167, 0, 36, 42, 180, 0, 14, 18, 104, 182, 0, 64, 153, 0, 7, 6, 167, 0, 20, 42, 180, 0, 14]
abbrev dktX11_readSource_2 : List UInt8 := dkwX11_readSource_2 ++ dktX11_readSource_3
def dkwX11_readSource_1 : List UInt8 := [182, 0, 64, 153, 0, 7, 4, 167, 0, 52, 42, 180, 0, 14, 18, 102, 182, 0, 64, 153, 0, 7, 5]
abbrev dktX11_readSource_1 : List UInt8 := dkwX11_readSource_1 ++ dktX11_readSource_2
def dkwX11_readSource_0 : List UInt8 := [42, 42, 180, 0, 14, 18, 98, 182, 0, 64, 153, 0, 7, 3, 167, 0, 68, 42, 180, 0, 14, 18, 100]
abbrev dktX11_readSource_0 : List UInt8 := dkwX11_readSource_0 ++ dktX11_readSource_1
theorem dksX11_readSource_0 : cX11_readSource.data.toList.drop 0 = dktX11_readSource_0 := by decide +kernel
theorem dksX11_readSource_1 : cX11_readSource.data.toList.drop 23 = dktX11_readSource_1 := dk_seg dksX11_readSource_0 23 rfl rfl
theorem dksX11_readSource_2 : cX11_readSource.data.toList.drop 46 = dktX11_readSource_2 := dk_seg dksX11_readSource_1 23 rfl rfl
theorem dksX11_readSource_3 : cX11_readSource.data.toList.drop 69 = dktX11_readSource_3 := dk_seg dksX11_readSource_2 23 rfl rfl
theorem dksX11_readSource_4 : cX11_readSource.data.toList.drop 93 = dktX11_readSource_4 := dk_seg dksX11_readSource_3 24 rfl rfl
theorem dksX11_readSource_5 : cX11_readSource.data.toList.drop 116 = dktX11_readSource_5 := dk_seg dksX11_readSource_4 23 rfl rfl
theorem dksX11_readSource_6 : cX11_readSource.data.toList.drop 140 = dktX11_readSource_6 := dk_seg dksX11_readSource_5 24 rfl rfl
theorem dksX11_readSource_7 : cX11_readSource.data.toList.drop 164 = dktX11_readSource_7 := dk_seg dksX11_readSource_6 24 rfl rfl
theorem dksX11_readSource_8 : cX11_readSource.data.toList.drop 186 = dktX11_readSource_8 := dk_seg dksX11_readSource_7 22 rfl rfl
theorem dX11_readSource_0 : decode cX11_readSource 0 = .ok (.aload_n 0, 1) := dk_42 (dk_at dksX11_readSource_0 0 rfl rfl)
theorem dX11_readSource_1 : decode cX11_readSource 1 = .ok (.aload_n 0, 1) := dk_42 (dk_at dksX11_readSource_0 1 rfl rfl)
theorem dX11_readSource_2 : decode cX11_readSource 2 = .ok (.getfield 14, 3) := dk_180 0 14 (dk_at dksX11_readSource_0 2 rfl rfl)
theorem dX11_readSource_5 : decode cX11_readSource 5 = .ok (.ldc 98, 2) := dk_18 98 (dk_at dksX11_readSource_0 5 rfl rfl)
theorem dX11_readSource_7 : decode cX11_readSource 7 = .ok (.invokevirtual 64, 3) := dk_182 0 64 (dk_at dksX11_readSource_0 7 rfl rfl)
theorem dX11_readSource_10 : decode cX11_readSource 10 = .ok (.ifCond .eq 7, 3) := dk_153 0 7 (dk_at dksX11_readSource_0 10 rfl rfl)
theorem dX11_readSource_13 : decode cX11_readSource 13 = .ok (.iconst 0, 1) := dk_3 (dk_at dksX11_readSource_0 13 rfl rfl)
theorem dX11_readSource_14 : decode cX11_readSource 14 = .ok (.goto 68, 3) := dk_167 0 68 (dk_at dksX11_readSource_0 14 rfl rfl)
theorem dX11_readSource_17 : decode cX11_readSource 17 = .ok (.aload_n 0, 1) := dk_42 (dk_at dksX11_readSource_0 17 rfl rfl)
theorem dX11_readSource_18 : decode cX11_readSource 18 = .ok (.getfield 14, 3) := dk_180 0 14 (dk_at dksX11_readSource_0 18 rfl rfl)
theorem dX11_readSource_21 : decode cX11_readSource 21 = .ok (.ldc 100, 2) := dk_18 100 (dk_at dksX11_readSource_0 21 rfl rfl)
theorem dX11_readSource_23 : decode cX11_readSource 23 = .ok (.invokevirtual 64, 3) := dk_182 0 64 (dk_at dksX11_readSource_1 0 rfl rfl)
theorem dX11_readSource_26 : decode cX11_readSource 26 = .ok (.ifCond .eq 7, 3) := dk_153 0 7 (dk_at dksX11_readSource_1 3 rfl rfl)
theorem dX11_readSource_29 : decode cX11_readSource 29 = .ok (.iconst 1, 1) := dk_4 (dk_at dksX11_readSource_1 6 rfl rfl)
theorem dX11_readSource_30 : decode cX11_readSource 30 = .ok (.goto 52, 3) := dk_167 0 52 (dk_at dksX11_readSource_1 7 rfl rfl)
theorem dX11_readSource_33 : decode cX11_readSource 33 = .ok (.aload_n 0, 1) := dk_42 (dk_at dksX11_readSource_1 10 rfl rfl)
theorem dX11_readSource_34 : decode cX11_readSource 34 = .ok (.getfield 14, 3) := dk_180 0 14 (dk_at dksX11_readSource_1 11 rfl rfl)
theorem dX11_readSource_37 : decode cX11_readSource 37 = .ok (.ldc 102, 2) := dk_18 102 (dk_at dksX11_readSource_1 14 rfl rfl)
theorem dX11_readSource_39 : decode cX11_readSource 39 = .ok (.invokevirtual 64, 3) := dk_182 0 64 (dk_at dksX11_readSource_1 16 rfl rfl)
theorem dX11_readSource_42 : decode cX11_readSource 42 = .ok (.ifCond .eq 7, 3) := dk_153 0 7 (dk_at dksX11_readSource_1 19 rfl rfl)
theorem dX11_readSource_45 : decode cX11_readSource 45 = .ok (.iconst 2, 1) := dk_5 (dk_at dksX11_readSource_1 22 rfl rfl)
theorem dX11_readSource_46 : decode cX11_readSource 46 = .ok (.goto 36, 3) := dk_167 0 36 (dk_at dksX11_readSource_2 0 rfl rfl)
theorem dX11_readSource_49 : decode cX11_readSource 49 = .ok (.aload_n 0, 1) := dk_42 (dk_at dksX11_readSource_2 3 rfl rfl)
theorem dX11_readSource_50 : decode cX11_readSource 50 = .ok (.getfield 14, 3) := dk_180 0 14 (dk_at dksX11_readSource_2 4 rfl rfl)
theorem dX11_readSource_53 : decode cX11_readSource 53 = .ok (.ldc 104, 2) := dk_18 104 (dk_at dksX11_readSource_2 7 rfl rfl)
theorem dX11_readSource_55 : decode cX11_readSource 55 = .ok (.invokevirtual 64, 3) := dk_182 0 64 (dk_at dksX11_readSource_2 9 rfl rfl)
theorem dX11_readSource_58 : decode cX11_readSource 58 = .ok (.ifCond .eq 7, 3) := dk_153 0 7 (dk_at dksX11_readSource_2 12 rfl rfl)
theorem dX11_readSource_61 : decode cX11_readSource 61 = .ok (.iconst 3, 1) := dk_6 (dk_at dksX11_readSource_2 15 rfl rfl)
theorem dX11_readSource_62 : decode cX11_readSource 62 = .ok (.goto 20, 3) := dk_167 0 20 (dk_at dksX11_readSource_2 16 rfl rfl)
theorem dX11_readSource_65 : decode cX11_readSource 65 = .ok (.aload_n 0, 1) := dk_42 (dk_at dksX11_readSource_2 19 rfl rfl)
theorem dX11_readSource_66 : decode cX11_readSource 66 = .ok (.getfield 14, 3) := dk_180 0 14 (dk_at dksX11_readSource_2 20 rfl rfl)
theorem dX11_readSource_69 : decode cX11_readSource 69 = .ok (.ldc 106, 2) := dk_18 106 (dk_at dksX11_readSource_3 0 rfl rfl)
theorem dX11_readSource_71 : decode cX11_readSource 71 = .ok (.invokevirtual 64, 3) := dk_182 0 64 (dk_at dksX11_readSource_3 2 rfl rfl)
theorem dX11_readSource_74 : decode cX11_readSource 74 = .ok (.ifCond .eq 7, 3) := dk_153 0 7 (dk_at dksX11_readSource_3 5 rfl rfl)
theorem dX11_readSource_77 : decode cX11_readSource 77 = .ok (.iconst 4, 1) := dk_7 (dk_at dksX11_readSource_3 8 rfl rfl)
theorem dX11_readSource_78 : decode cX11_readSource 78 = .ok (.goto 4, 3) := dk_167 0 4 (dk_at dksX11_readSource_3 9 rfl rfl)
theorem dX11_readSource_81 : decode cX11_readSource 81 = .ok (.iconst (-1), 1) := dk_2 (dk_at dksX11_readSource_3 12 rfl rfl)
theorem dX11_readSource_82 : decode cX11_readSource 82 = .ok (.putfield 108, 3) := dk_181 0 108 (dk_at dksX11_readSource_3 13 rfl rfl)
theorem dX11_readSource_85 : decode cX11_readSource 85 = .ok (.aload_n 0, 1) := dk_42 (dk_at dksX11_readSource_3 16 rfl rfl)
theorem dX11_readSource_86 : decode cX11_readSource 86 = .ok (.getfield 108, 3) := dk_180 0 108 (dk_at dksX11_readSource_3 17 rfl rfl)
theorem dX11_readSource_89 : decode cX11_readSource 89 = .ok (.ifCond .ge 11, 3) := dk_156 0 11 (dk_at dksX11_readSource_3 20 rfl rfl)
theorem dX11_readSource_92 : decode cX11_readSource 92 = .ok (.aload_n 0, 1) := dk_42 (dk_at dksX11_readSource_3 23 rfl rfl)
theorem dX11_readSource_93 : decode cX11_readSource 93 = .ok (.getfield 14, 3) := dk_180 0 14 (dk_at dksX11_readSource_4 0 rfl rfl)
theorem dX11_readSource_96 : decode cX11_readSource 96 = .ok (.invokevirtual 73, 3) := dk_182 0 73 (dk_at dksX11_readSource_4 3 rfl rfl)
theorem dX11_readSource_99 : decode cX11_readSource 99 = .ok (.athrow, 1) := dk_191 (dk_at dksX11_readSource_4 6 rfl rfl)
theorem dX11_readSource_100 : decode cX11_readSource 100 = .ok (.aload_n 0, 1) := dk_42 (dk_at dksX11_readSource_4 7 rfl rfl)
theorem dX11_readSource_101 : decode cX11_readSource 101 = .ok (.getfield 14, 3) := dk_180 0 14 (dk_at dksX11_readSource_4 8 rfl rfl)
theorem dX11_readSource_104 : decode cX11_readSource 104 = .ok (.invokevirtual 77, 3) := dk_182 0 77 (dk_at dksX11_readSource_4 11 rfl rfl)
theorem dX11_readSource_107 : decode cX11_readSource 107 = .ok (.aload_n 0, 1) := dk_42 (dk_at dksX11_readSource_4 14 rfl rfl)
theorem dX11_readSource_108 : decode cX11_readSource 108 = .ok (.aload_n 0, 1) := dk_42 (dk_at dksX11_readSource_4 15 rfl rfl)
theorem dX11_readSource_109 : decode cX11_readSource 109 = .ok (.getfield 108, 3) := dk_180 0 108 (dk_at dksX11_readSource_4 16 rfl rfl)
theorem dX11_readSource_112 : decode cX11_readSource 112 = .ok (.ifCond .eq 11, 3) := dk_153 0 11 (dk_at dksX11_readSource_4 19 rfl rfl)
theorem dX11_readSource_115 : decode cX11_readSource 115 = .ok (.aload_n 0, 1) := dk_42 (dk_at dksX11_readSource_4 22 rfl rfl)
theorem dX11_readSource_116 : decode cX11_readSource 116 = .ok (.getfield 108, 3) := dk_180 0 108 (dk_at dksX11_readSource_5 0 rfl rfl)
theorem dX11_readSource_119 : decode cX11_readSource 119 = .ok (.iconst 4, 1) := dk_7 (dk_at dksX11_readSource_5 3 rfl rfl)
theorem dX11_readSource_120 : decode cX11_readSource 120 = .ok (.if_icmp .ne 13, 3) := dk_160 0 13 (dk_at dksX11_readSource_5 4 rfl rfl)
theorem dX11_readSource_123 : decode cX11_readSource 123 = .ok (.aload_n 0, 1) := dk_42 (dk_at dksX11_readSource_5 7 rfl rfl)
theorem dX11_readSource_124 : decode cX11_readSource 124 = .ok (.getfield 14, 3) := dk_180 0 14 (dk_at dksX11_readSource_5 8 rfl rfl)
theorem dX11_readSource_127 : decode cX11_readSource 127 = .ok (.invokevirtual 80, 3) := dk_182 0 80 (dk_at dksX11_readSource_5 11 rfl rfl)
theorem dX11_readSource_130 : decode cX11_readSource 130 = .ok (.goto 13, 3) := dk_167 0 13 (dk_at dksX11_readSource_5 14 rfl rfl)
theorem dX11_readSource_133 : decode cX11_readSource 133 = .ok (.aload_n 0, 1) := dk_42 (dk_at dksX11_readSource_5 17 rfl rfl)
theorem dX11_readSource_134 : decode cX11_readSource 134 = .ok (.getfield 14, 3) := dk_180 0 14 (dk_at dksX11_readSource_5 18 rfl rfl)
theorem dX11_readSource_137 : decode cX11_readSource 137 = .ok (.iconst 0, 1) := dk_3 (dk_at dksX11_readSource_5 21 rfl rfl)
theorem dX11_readSource_138 : decode cX11_readSource 138 = .ok (.bipush 23, 2) := dk_16 23 (dk_at dksX11_readSource_5 22 rfl rfl)
theorem dX11_readSource_140 : decode cX11_readSource 140 = .ok (.invokevirtual 111, 3) := dk_182 0 111 (dk_at dksX11_readSource_6 0 rfl rfl)
theorem dX11_readSource_143 : decode cX11_readSource 143 = .ok (.putfield 114, 3) := dk_181 0 114 (dk_at dksX11_readSource_6 3 rfl rfl)
theorem dX11_readSource_146 : decode cX11_readSource 146 = .ok (.aload_n 0, 1) := dk_42 (dk_at dksX11_readSource_6 6 rfl rfl)
theorem dX11_readSource_147 : decode cX11_readSource 147 = .ok (.getfield 108, 3) := dk_180 0 108 (dk_at dksX11_readSource_6 7 rfl rfl)
theorem dX11_readSource_150 : decode cX11_readSource 150 = .ok (.ifCond .ne 14, 3) := dk_154 0 14 (dk_at dksX11_readSource_6 10 rfl rfl)
theorem dX11_readSource_153 : decode cX11_readSource 153 = .ok (.aload_n 0, 1) := dk_42 (dk_at dksX11_readSource_6 13 rfl rfl)
theorem dX11_readSource_154 : decode cX11_readSource 154 = .ok (.aload_n 0, 1) := dk_42 (dk_at dksX11_readSource_6 14 rfl rfl)
theorem dX11_readSource_155 : decode cX11_readSource 155 = .ok (.getfield 14, 3) := dk_180 0 14 (dk_at dksX11_readSource_6 15 rfl rfl)
theorem dX11_readSource_158 : decode cX11_readSource 158 = .ok (.invokevirtual 80, 3) := dk_182 0 80 (dk_at dksX11_readSource_6 18 rfl rfl)
theorem dX11_readSource_161 : decode cX11_readSource 161 = .ok (.putfield 117, 3) := dk_181 0 117 (dk_at dksX11_readSource_6 21 rfl rfl)
theorem dX11_readSource_164 : decode cX11_readSource 164 = .ok (.aload_n 0, 1) := dk_42 (dk_at dksX11_readSource_7 0 rfl rfl)
theorem dX11_readSource_165 : decode cX11_readSource 165 = .ok (.getfield 108, 3) := dk_180 0 108 (dk_at dksX11_readSource_7 1 rfl rfl)
theorem dX11_readSource_168 : decode cX11_readSource 168 = .ok (.iconst 4, 1) := dk_7 (dk_at dksX11_readSource_7 4 rfl rfl)
theorem dX11_readSource_169 : decode cX11_readSource 169 = .ok (.if_icmp .ne 23, 3) := dk_160 0 23 (dk_at dksX11_readSource_7 5 rfl rfl)
theorem dX11_readSource_172 : decode cX11_readSource 172 = .ok (.aload_n 0, 1) := dk_42 (dk_at dksX11_readSource_7 8 rfl rfl)
theorem dX11_readSource_173 : decode cX11_readSource 173 = .ok (.invokevirtual 120, 3) := dk_182 0 120 (dk_at dksX11_readSource_7 9 rfl rfl)
theorem dX11_readSource_176 : decode cX11_readSource 176 = .ok (.aload_n 0, 1) := dk_42 (dk_at dksX11_readSource_7 12 rfl rfl)
theorem dX11_readSource_177 : decode cX11_readSource 177 = .ok (.aload_n 0, 1) := dk_42 (dk_at dksX11_readSource_7 13 rfl rfl)
theorem dX11_readSource_178 : decode cX11_readSource 178 = .ok (.getfield 57, 3) := dk_180 0 57 (dk_at dksX11_readSource_7 14 rfl rfl)
theorem dX11_readSource_181 : decode cX11_readSource 181 = .ok (.putfield 123, 3) := dk_181 0 123 (dk_at dksX11_readSource_7 17 rfl rfl)
theorem dX11_readSource_184 : decode cX11_readSource 184 = .ok (.aload_n 0, 1) := dk_42 (dk_at dksX11_readSource_7 20 rfl rfl)
theorem dX11_readSource_185 : decode cX11_readSource 185 = .ok (.aload_n 0, 1) := dk_42 (dk_at dksX11_readSource_7 21 rfl rfl)
theorem dX11_readSource_186 : decode cX11_readSource 186 = .ok (.getfield 47, 3) := dk_180 0 47 (dk_at dksX11_readSource_8 0 rfl rfl)
theorem dX11_readSource_189 : decode cX11_readSource 189 = .ok (.putfield 126, 3) := dk_181 0 126 (dk_at dksX11_readSource_8 3 rfl rfl)
theorem dX11_readSource_192 : decode cX11_readSource 192 = .ok (.return_, 1) := dk_177 (dk_at dksX11_readSource_8 6 rfl rfl)
abbrev cX11_mapping : ByteArray := prog_29_method_3_code
def yX11_mapping : MethodName := ⟨RX11, "mapping", "()V"⟩
def dkwX11_mapping_7 : List UInt8 := [181, 0, 47, 177]
abbrev dktX11_mapping_7 : List UInt8 := dkwX11_mapping_7 ++ []
def dkwX11_mapping_6 : List UInt8 := [180, 0, 14, 182, 0, 73, 191, 42, 180, 0, 14, 182, 0, 77, 42, 42, 180, 0, 14, 182, 0, 80]
abbrev dktX11_mapping_6 : List UInt8 := dkwX11_mapping_6 ++ dktX11_mapping_7
def dkwX11_mapping_5 : List UInt8 := [18, 96, 182, 0, 64, 153, 0, 7, 7, 167, 0, 4, 2, 181, 0, 57, 42, 180, 0, 57, 156, 0, 11, 42]
abbrev dktX11_mapping_5 : List UInt8 := dkwX11_mapping_5 ++ dktX11_mapping_6
def dkwX11_mapping_4 : List UInt8 := [167, 0, 36, 42, 180, 0, 14, 18, 94, 182, 0, 64, 153, 0, 7, 6, 167, 0, 20, 42, 180, 0, 14]
abbrev dktX11_mapping_4 : List UInt8 := dkwX11_mapping_4 ++ dktX11_mapping_5
def dkwX11_mapping_3 : List UInt8 := [182, 0, 64, 153, 0, 7, 4, 167, 0, 52, 42, 180, 0, 14, 18, 92, 182, 0, 64, 153, 0, 7, 5]
abbrev dktX11_mapping_3 : List UInt8 := dkwX11_mapping_3 ++ dktX11_mapping_4
def dkwX11_mapping_2 : List UInt8 := [42, 42, 180, 0, 14, 18, 88, 182, 0, 64, 153, 0, 7, 3, 167, 0, 68, 42, 180, 0, 14, 18, 90]
abbrev dktX11_mapping_2 : List UInt8 := dkwX11_mapping_2 ++ dktX11_mapping_3
def dkwX11_mapping_1 : List UInt8 := [167, 0, 142, 42, 180, 0, 14, 18, 86, 182, 0, 53, 153, 0, 12, 42, 16, 6, 181, 0, 57, 167, 0, 121]
abbrev dktX11_mapping_1 : List UInt8 := dkwX11_mapping_1 ++ dktX11_mapping_2
def dkwX11_mapping_0 : List UInt8 := [42, 3, 181, 0, 47, 42, 180, 0, 14, 18, 84, 182, 0, 53, 153, 0, 11, 42, 8, 181, 0, 57]
abbrev dktX11_mapping_0 : List UInt8 := dkwX11_mapping_0 ++ dktX11_mapping_1
theorem dksX11_mapping_0 : cX11_mapping.data.toList.drop 0 = dktX11_mapping_0 := by decide +kernel
theorem dksX11_mapping_1 : cX11_mapping.data.toList.drop 22 = dktX11_mapping_1 := dk_seg dksX11_mapping_0 22 rfl rfl
theorem dksX11_mapping_2 : cX11_mapping.data.toList.drop 46 = dktX11_mapping_2 := dk_seg dksX11_mapping_1 24 rfl rfl
theorem dksX11_mapping_3 : cX11_mapping.data.toList.drop 69 = dktX11_mapping_3 := dk_seg dksX11_mapping_2 23 rfl rfl
theorem dksX11_mapping_4 : cX11_mapping.data.toList.drop 92 = dktX11_mapping_4 := dk_seg dksX11_mapping_3 23 rfl rfl
theorem dksX11_mapping_5 : cX11_mapping.data.toList.drop 115 = dktX11_mapping_5 := dk_seg dksX11_mapping_4 23 rfl rfl
theorem dksX11_mapping_6 : cX11_mapping.data.toList.drop 139 = dktX11_mapping_6 := dk_seg dksX11_mapping_5 24 rfl rfl
theorem dksX11_mapping_7 : cX11_mapping.data.toList.drop 161 = dktX11_mapping_7 := dk_seg dksX11_mapping_6 22 rfl rfl
theorem dX11_mapping_0 : decode cX11_mapping 0 = .ok (.aload_n 0, 1) := dk_42 (dk_at dksX11_mapping_0 0 rfl rfl)
theorem dX11_mapping_1 : decode cX11_mapping 1 = .ok (.iconst 0, 1) := dk_3 (dk_at dksX11_mapping_0 1 rfl rfl)
theorem dX11_mapping_2 : decode cX11_mapping 2 = .ok (.putfield 47, 3) := dk_181 0 47 (dk_at dksX11_mapping_0 2 rfl rfl)
theorem dX11_mapping_5 : decode cX11_mapping 5 = .ok (.aload_n 0, 1) := dk_42 (dk_at dksX11_mapping_0 5 rfl rfl)
theorem dX11_mapping_6 : decode cX11_mapping 6 = .ok (.getfield 14, 3) := dk_180 0 14 (dk_at dksX11_mapping_0 6 rfl rfl)
theorem dX11_mapping_9 : decode cX11_mapping 9 = .ok (.ldc 84, 2) := dk_18 84 (dk_at dksX11_mapping_0 9 rfl rfl)
theorem dX11_mapping_11 : decode cX11_mapping 11 = .ok (.invokevirtual 53, 3) := dk_182 0 53 (dk_at dksX11_mapping_0 11 rfl rfl)
theorem dX11_mapping_14 : decode cX11_mapping 14 = .ok (.ifCond .eq 11, 3) := dk_153 0 11 (dk_at dksX11_mapping_0 14 rfl rfl)
theorem dX11_mapping_17 : decode cX11_mapping 17 = .ok (.aload_n 0, 1) := dk_42 (dk_at dksX11_mapping_0 17 rfl rfl)
theorem dX11_mapping_18 : decode cX11_mapping 18 = .ok (.iconst 5, 1) := dk_8 (dk_at dksX11_mapping_0 18 rfl rfl)
theorem dX11_mapping_19 : decode cX11_mapping 19 = .ok (.putfield 57, 3) := dk_181 0 57 (dk_at dksX11_mapping_0 19 rfl rfl)
theorem dX11_mapping_22 : decode cX11_mapping 22 = .ok (.goto 142, 3) := dk_167 0 142 (dk_at dksX11_mapping_1 0 rfl rfl)
theorem dX11_mapping_25 : decode cX11_mapping 25 = .ok (.aload_n 0, 1) := dk_42 (dk_at dksX11_mapping_1 3 rfl rfl)
theorem dX11_mapping_26 : decode cX11_mapping 26 = .ok (.getfield 14, 3) := dk_180 0 14 (dk_at dksX11_mapping_1 4 rfl rfl)
theorem dX11_mapping_29 : decode cX11_mapping 29 = .ok (.ldc 86, 2) := dk_18 86 (dk_at dksX11_mapping_1 7 rfl rfl)
theorem dX11_mapping_31 : decode cX11_mapping 31 = .ok (.invokevirtual 53, 3) := dk_182 0 53 (dk_at dksX11_mapping_1 9 rfl rfl)
theorem dX11_mapping_34 : decode cX11_mapping 34 = .ok (.ifCond .eq 12, 3) := dk_153 0 12 (dk_at dksX11_mapping_1 12 rfl rfl)
theorem dX11_mapping_37 : decode cX11_mapping 37 = .ok (.aload_n 0, 1) := dk_42 (dk_at dksX11_mapping_1 15 rfl rfl)
theorem dX11_mapping_38 : decode cX11_mapping 38 = .ok (.bipush 6, 2) := dk_16 6 (dk_at dksX11_mapping_1 16 rfl rfl)
theorem dX11_mapping_40 : decode cX11_mapping 40 = .ok (.putfield 57, 3) := dk_181 0 57 (dk_at dksX11_mapping_1 18 rfl rfl)
theorem dX11_mapping_43 : decode cX11_mapping 43 = .ok (.goto 121, 3) := dk_167 0 121 (dk_at dksX11_mapping_1 21 rfl rfl)
theorem dX11_mapping_46 : decode cX11_mapping 46 = .ok (.aload_n 0, 1) := dk_42 (dk_at dksX11_mapping_2 0 rfl rfl)
theorem dX11_mapping_47 : decode cX11_mapping 47 = .ok (.aload_n 0, 1) := dk_42 (dk_at dksX11_mapping_2 1 rfl rfl)
theorem dX11_mapping_48 : decode cX11_mapping 48 = .ok (.getfield 14, 3) := dk_180 0 14 (dk_at dksX11_mapping_2 2 rfl rfl)
theorem dX11_mapping_51 : decode cX11_mapping 51 = .ok (.ldc 88, 2) := dk_18 88 (dk_at dksX11_mapping_2 5 rfl rfl)
theorem dX11_mapping_53 : decode cX11_mapping 53 = .ok (.invokevirtual 64, 3) := dk_182 0 64 (dk_at dksX11_mapping_2 7 rfl rfl)
theorem dX11_mapping_56 : decode cX11_mapping 56 = .ok (.ifCond .eq 7, 3) := dk_153 0 7 (dk_at dksX11_mapping_2 10 rfl rfl)
theorem dX11_mapping_59 : decode cX11_mapping 59 = .ok (.iconst 0, 1) := dk_3 (dk_at dksX11_mapping_2 13 rfl rfl)
theorem dX11_mapping_60 : decode cX11_mapping 60 = .ok (.goto 68, 3) := dk_167 0 68 (dk_at dksX11_mapping_2 14 rfl rfl)
theorem dX11_mapping_63 : decode cX11_mapping 63 = .ok (.aload_n 0, 1) := dk_42 (dk_at dksX11_mapping_2 17 rfl rfl)
theorem dX11_mapping_64 : decode cX11_mapping 64 = .ok (.getfield 14, 3) := dk_180 0 14 (dk_at dksX11_mapping_2 18 rfl rfl)
theorem dX11_mapping_67 : decode cX11_mapping 67 = .ok (.ldc 90, 2) := dk_18 90 (dk_at dksX11_mapping_2 21 rfl rfl)
theorem dX11_mapping_69 : decode cX11_mapping 69 = .ok (.invokevirtual 64, 3) := dk_182 0 64 (dk_at dksX11_mapping_3 0 rfl rfl)
theorem dX11_mapping_72 : decode cX11_mapping 72 = .ok (.ifCond .eq 7, 3) := dk_153 0 7 (dk_at dksX11_mapping_3 3 rfl rfl)
theorem dX11_mapping_75 : decode cX11_mapping 75 = .ok (.iconst 1, 1) := dk_4 (dk_at dksX11_mapping_3 6 rfl rfl)
theorem dX11_mapping_76 : decode cX11_mapping 76 = .ok (.goto 52, 3) := dk_167 0 52 (dk_at dksX11_mapping_3 7 rfl rfl)
theorem dX11_mapping_79 : decode cX11_mapping 79 = .ok (.aload_n 0, 1) := dk_42 (dk_at dksX11_mapping_3 10 rfl rfl)
theorem dX11_mapping_80 : decode cX11_mapping 80 = .ok (.getfield 14, 3) := dk_180 0 14 (dk_at dksX11_mapping_3 11 rfl rfl)
theorem dX11_mapping_83 : decode cX11_mapping 83 = .ok (.ldc 92, 2) := dk_18 92 (dk_at dksX11_mapping_3 14 rfl rfl)
theorem dX11_mapping_85 : decode cX11_mapping 85 = .ok (.invokevirtual 64, 3) := dk_182 0 64 (dk_at dksX11_mapping_3 16 rfl rfl)
theorem dX11_mapping_88 : decode cX11_mapping 88 = .ok (.ifCond .eq 7, 3) := dk_153 0 7 (dk_at dksX11_mapping_3 19 rfl rfl)
theorem dX11_mapping_91 : decode cX11_mapping 91 = .ok (.iconst 2, 1) := dk_5 (dk_at dksX11_mapping_3 22 rfl rfl)
theorem dX11_mapping_92 : decode cX11_mapping 92 = .ok (.goto 36, 3) := dk_167 0 36 (dk_at dksX11_mapping_4 0 rfl rfl)
theorem dX11_mapping_95 : decode cX11_mapping 95 = .ok (.aload_n 0, 1) := dk_42 (dk_at dksX11_mapping_4 3 rfl rfl)
theorem dX11_mapping_96 : decode cX11_mapping 96 = .ok (.getfield 14, 3) := dk_180 0 14 (dk_at dksX11_mapping_4 4 rfl rfl)
theorem dX11_mapping_99 : decode cX11_mapping 99 = .ok (.ldc 94, 2) := dk_18 94 (dk_at dksX11_mapping_4 7 rfl rfl)
theorem dX11_mapping_101 : decode cX11_mapping 101 = .ok (.invokevirtual 64, 3) := dk_182 0 64 (dk_at dksX11_mapping_4 9 rfl rfl)
theorem dX11_mapping_104 : decode cX11_mapping 104 = .ok (.ifCond .eq 7, 3) := dk_153 0 7 (dk_at dksX11_mapping_4 12 rfl rfl)
theorem dX11_mapping_107 : decode cX11_mapping 107 = .ok (.iconst 3, 1) := dk_6 (dk_at dksX11_mapping_4 15 rfl rfl)
theorem dX11_mapping_108 : decode cX11_mapping 108 = .ok (.goto 20, 3) := dk_167 0 20 (dk_at dksX11_mapping_4 16 rfl rfl)
theorem dX11_mapping_111 : decode cX11_mapping 111 = .ok (.aload_n 0, 1) := dk_42 (dk_at dksX11_mapping_4 19 rfl rfl)
theorem dX11_mapping_112 : decode cX11_mapping 112 = .ok (.getfield 14, 3) := dk_180 0 14 (dk_at dksX11_mapping_4 20 rfl rfl)
theorem dX11_mapping_115 : decode cX11_mapping 115 = .ok (.ldc 96, 2) := dk_18 96 (dk_at dksX11_mapping_5 0 rfl rfl)
theorem dX11_mapping_117 : decode cX11_mapping 117 = .ok (.invokevirtual 64, 3) := dk_182 0 64 (dk_at dksX11_mapping_5 2 rfl rfl)
theorem dX11_mapping_120 : decode cX11_mapping 120 = .ok (.ifCond .eq 7, 3) := dk_153 0 7 (dk_at dksX11_mapping_5 5 rfl rfl)
theorem dX11_mapping_123 : decode cX11_mapping 123 = .ok (.iconst 4, 1) := dk_7 (dk_at dksX11_mapping_5 8 rfl rfl)
theorem dX11_mapping_124 : decode cX11_mapping 124 = .ok (.goto 4, 3) := dk_167 0 4 (dk_at dksX11_mapping_5 9 rfl rfl)
theorem dX11_mapping_127 : decode cX11_mapping 127 = .ok (.iconst (-1), 1) := dk_2 (dk_at dksX11_mapping_5 12 rfl rfl)
theorem dX11_mapping_128 : decode cX11_mapping 128 = .ok (.putfield 57, 3) := dk_181 0 57 (dk_at dksX11_mapping_5 13 rfl rfl)
theorem dX11_mapping_131 : decode cX11_mapping 131 = .ok (.aload_n 0, 1) := dk_42 (dk_at dksX11_mapping_5 16 rfl rfl)
theorem dX11_mapping_132 : decode cX11_mapping 132 = .ok (.getfield 57, 3) := dk_180 0 57 (dk_at dksX11_mapping_5 17 rfl rfl)
theorem dX11_mapping_135 : decode cX11_mapping 135 = .ok (.ifCond .ge 11, 3) := dk_156 0 11 (dk_at dksX11_mapping_5 20 rfl rfl)
theorem dX11_mapping_138 : decode cX11_mapping 138 = .ok (.aload_n 0, 1) := dk_42 (dk_at dksX11_mapping_5 23 rfl rfl)
theorem dX11_mapping_139 : decode cX11_mapping 139 = .ok (.getfield 14, 3) := dk_180 0 14 (dk_at dksX11_mapping_6 0 rfl rfl)
theorem dX11_mapping_142 : decode cX11_mapping 142 = .ok (.invokevirtual 73, 3) := dk_182 0 73 (dk_at dksX11_mapping_6 3 rfl rfl)
theorem dX11_mapping_145 : decode cX11_mapping 145 = .ok (.athrow, 1) := dk_191 (dk_at dksX11_mapping_6 6 rfl rfl)
theorem dX11_mapping_146 : decode cX11_mapping 146 = .ok (.aload_n 0, 1) := dk_42 (dk_at dksX11_mapping_6 7 rfl rfl)
theorem dX11_mapping_147 : decode cX11_mapping 147 = .ok (.getfield 14, 3) := dk_180 0 14 (dk_at dksX11_mapping_6 8 rfl rfl)
theorem dX11_mapping_150 : decode cX11_mapping 150 = .ok (.invokevirtual 77, 3) := dk_182 0 77 (dk_at dksX11_mapping_6 11 rfl rfl)
theorem dX11_mapping_153 : decode cX11_mapping 153 = .ok (.aload_n 0, 1) := dk_42 (dk_at dksX11_mapping_6 14 rfl rfl)
theorem dX11_mapping_154 : decode cX11_mapping 154 = .ok (.aload_n 0, 1) := dk_42 (dk_at dksX11_mapping_6 15 rfl rfl)
theorem dX11_mapping_155 : decode cX11_mapping 155 = .ok (.getfield 14, 3) := dk_180 0 14 (dk_at dksX11_mapping_6 16 rfl rfl)
theorem dX11_mapping_158 : decode cX11_mapping 158 = .ok (.invokevirtual 80, 3) := dk_182 0 80 (dk_at dksX11_mapping_6 19 rfl rfl)
theorem dX11_mapping_161 : decode cX11_mapping 161 = .ok (.putfield 47, 3) := dk_181 0 47 (dk_at dksX11_mapping_7 0 rfl rfl)
theorem dX11_mapping_164 : decode cX11_mapping 164 = .ok (.return_, 1) := dk_177 (dk_at dksX11_mapping_7 3 rfl rfl)
abbrev cX11_stageOf : ByteArray := prog_29_method_5_code
def yX11_stageOf : MethodName := ⟨RX11, "stageOf", "()I"⟩
def dkwX11_stageOf_6 : List UInt8 := [182, 0, 64, 153, 0, 8, 16, 8, 167, 0, 4, 2, 172]
abbrev dktX11_stageOf_6 : List UInt8 := dkwX11_stageOf_6 ++ []
def dkwX11_stageOf_5 : List UInt8 := [180, 0, 14, 18, 143, 182, 0, 64, 153, 0, 8, 16, 7, 167, 0, 21, 42, 180, 0, 14, 18, 145]
abbrev dktX11_stageOf_5 : List UInt8 := dkwX11_stageOf_5 ++ dktX11_stageOf_6
def dkwX11_stageOf_4 : List UInt8 := [8, 167, 0, 55, 42, 180, 0, 14, 18, 141, 182, 0, 64, 153, 0, 8, 16, 6, 167, 0, 38, 42]
abbrev dktX11_stageOf_4 : List UInt8 := dkwX11_stageOf_4 ++ dktX11_stageOf_5
def dkwX11_stageOf_3 : List UInt8 := [18, 137, 182, 0, 64, 153, 0, 7, 7, 167, 0, 71, 42, 180, 0, 14, 18, 139, 182, 0, 64, 153, 0, 7]
abbrev dktX11_stageOf_3 : List UInt8 := dkwX11_stageOf_3 ++ dktX11_stageOf_4
def dkwX11_stageOf_2 : List UInt8 := [167, 0, 103, 42, 180, 0, 14, 18, 135, 182, 0, 64, 153, 0, 7, 6, 167, 0, 87, 42, 180, 0, 14]
abbrev dktX11_stageOf_2 : List UInt8 := dkwX11_stageOf_2 ++ dktX11_stageOf_3
def dkwX11_stageOf_1 : List UInt8 := [182, 0, 64, 153, 0, 7, 4, 167, 0, 119, 42, 180, 0, 14, 18, 133, 182, 0, 64, 153, 0, 7, 5]
abbrev dktX11_stageOf_1 : List UInt8 := dkwX11_stageOf_1 ++ dktX11_stageOf_2
def dkwX11_stageOf_0 : List UInt8 := [42, 180, 0, 14, 18, 129, 182, 0, 64, 153, 0, 7, 3, 167, 0, 135, 42, 180, 0, 14, 18, 131]
abbrev dktX11_stageOf_0 : List UInt8 := dkwX11_stageOf_0 ++ dktX11_stageOf_1
theorem dksX11_stageOf_0 : cX11_stageOf.data.toList.drop 0 = dktX11_stageOf_0 := by decide +kernel
theorem dksX11_stageOf_1 : cX11_stageOf.data.toList.drop 22 = dktX11_stageOf_1 := dk_seg dksX11_stageOf_0 22 rfl rfl
theorem dksX11_stageOf_2 : cX11_stageOf.data.toList.drop 45 = dktX11_stageOf_2 := dk_seg dksX11_stageOf_1 23 rfl rfl
theorem dksX11_stageOf_3 : cX11_stageOf.data.toList.drop 68 = dktX11_stageOf_3 := dk_seg dksX11_stageOf_2 23 rfl rfl
theorem dksX11_stageOf_4 : cX11_stageOf.data.toList.drop 92 = dktX11_stageOf_4 := dk_seg dksX11_stageOf_3 24 rfl rfl
theorem dksX11_stageOf_5 : cX11_stageOf.data.toList.drop 114 = dktX11_stageOf_5 := dk_seg dksX11_stageOf_4 22 rfl rfl
theorem dksX11_stageOf_6 : cX11_stageOf.data.toList.drop 136 = dktX11_stageOf_6 := dk_seg dksX11_stageOf_5 22 rfl rfl
theorem dX11_stageOf_0 : decode cX11_stageOf 0 = .ok (.aload_n 0, 1) := dk_42 (dk_at dksX11_stageOf_0 0 rfl rfl)
theorem dX11_stageOf_1 : decode cX11_stageOf 1 = .ok (.getfield 14, 3) := dk_180 0 14 (dk_at dksX11_stageOf_0 1 rfl rfl)
theorem dX11_stageOf_4 : decode cX11_stageOf 4 = .ok (.ldc 129, 2) := dk_18 129 (dk_at dksX11_stageOf_0 4 rfl rfl)
theorem dX11_stageOf_6 : decode cX11_stageOf 6 = .ok (.invokevirtual 64, 3) := dk_182 0 64 (dk_at dksX11_stageOf_0 6 rfl rfl)
theorem dX11_stageOf_9 : decode cX11_stageOf 9 = .ok (.ifCond .eq 7, 3) := dk_153 0 7 (dk_at dksX11_stageOf_0 9 rfl rfl)
theorem dX11_stageOf_12 : decode cX11_stageOf 12 = .ok (.iconst 0, 1) := dk_3 (dk_at dksX11_stageOf_0 12 rfl rfl)
theorem dX11_stageOf_13 : decode cX11_stageOf 13 = .ok (.goto 135, 3) := dk_167 0 135 (dk_at dksX11_stageOf_0 13 rfl rfl)
theorem dX11_stageOf_16 : decode cX11_stageOf 16 = .ok (.aload_n 0, 1) := dk_42 (dk_at dksX11_stageOf_0 16 rfl rfl)
theorem dX11_stageOf_17 : decode cX11_stageOf 17 = .ok (.getfield 14, 3) := dk_180 0 14 (dk_at dksX11_stageOf_0 17 rfl rfl)
theorem dX11_stageOf_20 : decode cX11_stageOf 20 = .ok (.ldc 131, 2) := dk_18 131 (dk_at dksX11_stageOf_0 20 rfl rfl)
theorem dX11_stageOf_22 : decode cX11_stageOf 22 = .ok (.invokevirtual 64, 3) := dk_182 0 64 (dk_at dksX11_stageOf_1 0 rfl rfl)
theorem dX11_stageOf_25 : decode cX11_stageOf 25 = .ok (.ifCond .eq 7, 3) := dk_153 0 7 (dk_at dksX11_stageOf_1 3 rfl rfl)
theorem dX11_stageOf_28 : decode cX11_stageOf 28 = .ok (.iconst 1, 1) := dk_4 (dk_at dksX11_stageOf_1 6 rfl rfl)
theorem dX11_stageOf_29 : decode cX11_stageOf 29 = .ok (.goto 119, 3) := dk_167 0 119 (dk_at dksX11_stageOf_1 7 rfl rfl)
theorem dX11_stageOf_32 : decode cX11_stageOf 32 = .ok (.aload_n 0, 1) := dk_42 (dk_at dksX11_stageOf_1 10 rfl rfl)
theorem dX11_stageOf_33 : decode cX11_stageOf 33 = .ok (.getfield 14, 3) := dk_180 0 14 (dk_at dksX11_stageOf_1 11 rfl rfl)
theorem dX11_stageOf_36 : decode cX11_stageOf 36 = .ok (.ldc 133, 2) := dk_18 133 (dk_at dksX11_stageOf_1 14 rfl rfl)
theorem dX11_stageOf_38 : decode cX11_stageOf 38 = .ok (.invokevirtual 64, 3) := dk_182 0 64 (dk_at dksX11_stageOf_1 16 rfl rfl)
theorem dX11_stageOf_41 : decode cX11_stageOf 41 = .ok (.ifCond .eq 7, 3) := dk_153 0 7 (dk_at dksX11_stageOf_1 19 rfl rfl)
theorem dX11_stageOf_44 : decode cX11_stageOf 44 = .ok (.iconst 2, 1) := dk_5 (dk_at dksX11_stageOf_1 22 rfl rfl)
theorem dX11_stageOf_45 : decode cX11_stageOf 45 = .ok (.goto 103, 3) := dk_167 0 103 (dk_at dksX11_stageOf_2 0 rfl rfl)
theorem dX11_stageOf_48 : decode cX11_stageOf 48 = .ok (.aload_n 0, 1) := dk_42 (dk_at dksX11_stageOf_2 3 rfl rfl)
theorem dX11_stageOf_49 : decode cX11_stageOf 49 = .ok (.getfield 14, 3) := dk_180 0 14 (dk_at dksX11_stageOf_2 4 rfl rfl)
theorem dX11_stageOf_52 : decode cX11_stageOf 52 = .ok (.ldc 135, 2) := dk_18 135 (dk_at dksX11_stageOf_2 7 rfl rfl)
theorem dX11_stageOf_54 : decode cX11_stageOf 54 = .ok (.invokevirtual 64, 3) := dk_182 0 64 (dk_at dksX11_stageOf_2 9 rfl rfl)
theorem dX11_stageOf_57 : decode cX11_stageOf 57 = .ok (.ifCond .eq 7, 3) := dk_153 0 7 (dk_at dksX11_stageOf_2 12 rfl rfl)
theorem dX11_stageOf_60 : decode cX11_stageOf 60 = .ok (.iconst 3, 1) := dk_6 (dk_at dksX11_stageOf_2 15 rfl rfl)
theorem dX11_stageOf_61 : decode cX11_stageOf 61 = .ok (.goto 87, 3) := dk_167 0 87 (dk_at dksX11_stageOf_2 16 rfl rfl)
theorem dX11_stageOf_64 : decode cX11_stageOf 64 = .ok (.aload_n 0, 1) := dk_42 (dk_at dksX11_stageOf_2 19 rfl rfl)
theorem dX11_stageOf_65 : decode cX11_stageOf 65 = .ok (.getfield 14, 3) := dk_180 0 14 (dk_at dksX11_stageOf_2 20 rfl rfl)
theorem dX11_stageOf_68 : decode cX11_stageOf 68 = .ok (.ldc 137, 2) := dk_18 137 (dk_at dksX11_stageOf_3 0 rfl rfl)
theorem dX11_stageOf_70 : decode cX11_stageOf 70 = .ok (.invokevirtual 64, 3) := dk_182 0 64 (dk_at dksX11_stageOf_3 2 rfl rfl)
theorem dX11_stageOf_73 : decode cX11_stageOf 73 = .ok (.ifCond .eq 7, 3) := dk_153 0 7 (dk_at dksX11_stageOf_3 5 rfl rfl)
theorem dX11_stageOf_76 : decode cX11_stageOf 76 = .ok (.iconst 4, 1) := dk_7 (dk_at dksX11_stageOf_3 8 rfl rfl)
theorem dX11_stageOf_77 : decode cX11_stageOf 77 = .ok (.goto 71, 3) := dk_167 0 71 (dk_at dksX11_stageOf_3 9 rfl rfl)
theorem dX11_stageOf_80 : decode cX11_stageOf 80 = .ok (.aload_n 0, 1) := dk_42 (dk_at dksX11_stageOf_3 12 rfl rfl)
theorem dX11_stageOf_81 : decode cX11_stageOf 81 = .ok (.getfield 14, 3) := dk_180 0 14 (dk_at dksX11_stageOf_3 13 rfl rfl)
theorem dX11_stageOf_84 : decode cX11_stageOf 84 = .ok (.ldc 139, 2) := dk_18 139 (dk_at dksX11_stageOf_3 16 rfl rfl)
theorem dX11_stageOf_86 : decode cX11_stageOf 86 = .ok (.invokevirtual 64, 3) := dk_182 0 64 (dk_at dksX11_stageOf_3 18 rfl rfl)
theorem dX11_stageOf_89 : decode cX11_stageOf 89 = .ok (.ifCond .eq 7, 3) := dk_153 0 7 (dk_at dksX11_stageOf_3 21 rfl rfl)
theorem dX11_stageOf_92 : decode cX11_stageOf 92 = .ok (.iconst 5, 1) := dk_8 (dk_at dksX11_stageOf_4 0 rfl rfl)
theorem dX11_stageOf_93 : decode cX11_stageOf 93 = .ok (.goto 55, 3) := dk_167 0 55 (dk_at dksX11_stageOf_4 1 rfl rfl)
theorem dX11_stageOf_96 : decode cX11_stageOf 96 = .ok (.aload_n 0, 1) := dk_42 (dk_at dksX11_stageOf_4 4 rfl rfl)
theorem dX11_stageOf_97 : decode cX11_stageOf 97 = .ok (.getfield 14, 3) := dk_180 0 14 (dk_at dksX11_stageOf_4 5 rfl rfl)
theorem dX11_stageOf_100 : decode cX11_stageOf 100 = .ok (.ldc 141, 2) := dk_18 141 (dk_at dksX11_stageOf_4 8 rfl rfl)
theorem dX11_stageOf_102 : decode cX11_stageOf 102 = .ok (.invokevirtual 64, 3) := dk_182 0 64 (dk_at dksX11_stageOf_4 10 rfl rfl)
theorem dX11_stageOf_105 : decode cX11_stageOf 105 = .ok (.ifCond .eq 8, 3) := dk_153 0 8 (dk_at dksX11_stageOf_4 13 rfl rfl)
theorem dX11_stageOf_108 : decode cX11_stageOf 108 = .ok (.bipush 6, 2) := dk_16 6 (dk_at dksX11_stageOf_4 16 rfl rfl)
theorem dX11_stageOf_110 : decode cX11_stageOf 110 = .ok (.goto 38, 3) := dk_167 0 38 (dk_at dksX11_stageOf_4 18 rfl rfl)
theorem dX11_stageOf_113 : decode cX11_stageOf 113 = .ok (.aload_n 0, 1) := dk_42 (dk_at dksX11_stageOf_4 21 rfl rfl)
theorem dX11_stageOf_114 : decode cX11_stageOf 114 = .ok (.getfield 14, 3) := dk_180 0 14 (dk_at dksX11_stageOf_5 0 rfl rfl)
theorem dX11_stageOf_117 : decode cX11_stageOf 117 = .ok (.ldc 143, 2) := dk_18 143 (dk_at dksX11_stageOf_5 3 rfl rfl)
theorem dX11_stageOf_119 : decode cX11_stageOf 119 = .ok (.invokevirtual 64, 3) := dk_182 0 64 (dk_at dksX11_stageOf_5 5 rfl rfl)
theorem dX11_stageOf_122 : decode cX11_stageOf 122 = .ok (.ifCond .eq 8, 3) := dk_153 0 8 (dk_at dksX11_stageOf_5 8 rfl rfl)
theorem dX11_stageOf_125 : decode cX11_stageOf 125 = .ok (.bipush 7, 2) := dk_16 7 (dk_at dksX11_stageOf_5 11 rfl rfl)
theorem dX11_stageOf_127 : decode cX11_stageOf 127 = .ok (.goto 21, 3) := dk_167 0 21 (dk_at dksX11_stageOf_5 13 rfl rfl)
theorem dX11_stageOf_130 : decode cX11_stageOf 130 = .ok (.aload_n 0, 1) := dk_42 (dk_at dksX11_stageOf_5 16 rfl rfl)
theorem dX11_stageOf_131 : decode cX11_stageOf 131 = .ok (.getfield 14, 3) := dk_180 0 14 (dk_at dksX11_stageOf_5 17 rfl rfl)
theorem dX11_stageOf_134 : decode cX11_stageOf 134 = .ok (.ldc 145, 2) := dk_18 145 (dk_at dksX11_stageOf_5 20 rfl rfl)
theorem dX11_stageOf_136 : decode cX11_stageOf 136 = .ok (.invokevirtual 64, 3) := dk_182 0 64 (dk_at dksX11_stageOf_6 0 rfl rfl)
theorem dX11_stageOf_139 : decode cX11_stageOf 139 = .ok (.ifCond .eq 8, 3) := dk_153 0 8 (dk_at dksX11_stageOf_6 3 rfl rfl)
theorem dX11_stageOf_142 : decode cX11_stageOf 142 = .ok (.bipush 8, 2) := dk_16 8 (dk_at dksX11_stageOf_6 6 rfl rfl)
theorem dX11_stageOf_144 : decode cX11_stageOf 144 = .ok (.goto 4, 3) := dk_167 0 4 (dk_at dksX11_stageOf_6 8 rfl rfl)
theorem dX11_stageOf_147 : decode cX11_stageOf 147 = .ok (.iconst (-1), 1) := dk_2 (dk_at dksX11_stageOf_6 11 rfl rfl)
theorem dX11_stageOf_148 : decode cX11_stageOf 148 = .ok (.ireturn, 1) := dk_172 (dk_at dksX11_stageOf_6 12 rfl rfl)
abbrev cX11_readStage : ByteArray := prog_29_method_6_code
def yX11_readStage : MethodName := ⟨RX11, "readStage", "(I)V"⟩
def dkwX11_readStage_7 : List UInt8 := [180, 0, 147, 42, 180, 0, 47, 79, 42, 89, 180, 0, 147, 4, 96, 181, 0, 147, 177]
abbrev dktX11_readStage_7 : List UInt8 := dkwX11_readStage_7 ++ []
def dkwX11_readStage_6 : List UInt8 := [42, 180, 0, 147, 27, 79, 42, 180, 0, 24, 42, 180, 0, 147, 42, 180, 0, 57, 79, 42, 180, 0, 27, 42]
abbrev dktX11_readStage_6 : List UInt8 := dkwX11_readStage_6 ++ dktX11_readStage_7
def dkwX11_readStage_5 : List UInt8 := [167, 0, 20, 42, 42, 180, 0, 14, 3, 18, 153, 182, 0, 111, 181, 0, 47, 167, 0, 3, 42, 180, 0, 20]
abbrev dktX11_readStage_5 : List UInt8 := dkwX11_readStage_5 ++ dktX11_readStage_6
def dkwX11_readStage_4 : List UInt8 := [182, 0, 111, 181, 0, 47, 167, 0, 36, 42, 42, 180, 0, 14, 3, 6, 182, 0, 111, 181, 0, 47]
abbrev dktX11_readStage_4 : List UInt8 := dkwX11_readStage_4 ++ dktX11_readStage_5
def dkwX11_readStage_3 : List UInt8 := [42, 182, 0, 150, 167, 0, 60, 42, 182, 0, 120, 167, 0, 53, 42, 42, 180, 0, 14, 3, 16, 100]
abbrev dktX11_readStage_3 : List UInt8 := dkwX11_readStage_3 ++ dktX11_readStage_4
def dkwX11_readStage_2 : List UInt8 := [170, 0, 0, 0, 113, 0, 0, 0, 0, 0, 0, 0, 8, 0, 0, 0, 49, 0, 0, 0, 56, 0, 0, 0, 63, 0, 0, 0, 113, 0, 0, 0, 80, 0, 0, 0, 96, 0, 0, 0, 96, 0, 0, 0, 49, 0, 0, 0, 49]
abbrev dktX11_readStage_2 : List UInt8 := dkwX11_readStage_2 ++ dktX11_readStage_3
def dkwX11_readStage_1 : List UInt8 := [42, 3, 181, 0, 57, 42, 3, 181, 0, 47, 27]
abbrev dktX11_readStage_1 : List UInt8 := dkwX11_readStage_1 ++ dktX11_readStage_2
def dkwX11_readStage_0 : List UInt8 := [42, 180, 0, 147, 16, 20, 160, 0, 11, 42, 180, 0, 14, 182, 0, 73, 191, 42, 180, 0, 14, 182, 0, 77]
abbrev dktX11_readStage_0 : List UInt8 := dkwX11_readStage_0 ++ dktX11_readStage_1
theorem dksX11_readStage_0 : cX11_readStage.data.toList.drop 0 = dktX11_readStage_0 := by decide +kernel
theorem dksX11_readStage_1 : cX11_readStage.data.toList.drop 24 = dktX11_readStage_1 := dk_seg dksX11_readStage_0 24 rfl rfl
theorem dksX11_readStage_2 : cX11_readStage.data.toList.drop 35 = dktX11_readStage_2 := dk_seg dksX11_readStage_1 11 rfl rfl
theorem dksX11_readStage_3 : cX11_readStage.data.toList.drop 84 = dktX11_readStage_3 := dk_seg dksX11_readStage_2 49 rfl rfl
theorem dksX11_readStage_4 : cX11_readStage.data.toList.drop 106 = dktX11_readStage_4 := dk_seg dksX11_readStage_3 22 rfl rfl
theorem dksX11_readStage_5 : cX11_readStage.data.toList.drop 128 = dktX11_readStage_5 := dk_seg dksX11_readStage_4 22 rfl rfl
theorem dksX11_readStage_6 : cX11_readStage.data.toList.drop 152 = dktX11_readStage_6 := dk_seg dksX11_readStage_5 24 rfl rfl
theorem dksX11_readStage_7 : cX11_readStage.data.toList.drop 176 = dktX11_readStage_7 := dk_seg dksX11_readStage_6 24 rfl rfl
theorem dX11_readStage_0 : decode cX11_readStage 0 = .ok (.aload_n 0, 1) := dk_42 (dk_at dksX11_readStage_0 0 rfl rfl)
theorem dX11_readStage_1 : decode cX11_readStage 1 = .ok (.getfield 147, 3) := dk_180 0 147 (dk_at dksX11_readStage_0 1 rfl rfl)
theorem dX11_readStage_4 : decode cX11_readStage 4 = .ok (.bipush 20, 2) := dk_16 20 (dk_at dksX11_readStage_0 4 rfl rfl)
theorem dX11_readStage_6 : decode cX11_readStage 6 = .ok (.if_icmp .ne 11, 3) := dk_160 0 11 (dk_at dksX11_readStage_0 6 rfl rfl)
theorem dX11_readStage_9 : decode cX11_readStage 9 = .ok (.aload_n 0, 1) := dk_42 (dk_at dksX11_readStage_0 9 rfl rfl)
theorem dX11_readStage_10 : decode cX11_readStage 10 = .ok (.getfield 14, 3) := dk_180 0 14 (dk_at dksX11_readStage_0 10 rfl rfl)
theorem dX11_readStage_13 : decode cX11_readStage 13 = .ok (.invokevirtual 73, 3) := dk_182 0 73 (dk_at dksX11_readStage_0 13 rfl rfl)
theorem dX11_readStage_16 : decode cX11_readStage 16 = .ok (.athrow, 1) := dk_191 (dk_at dksX11_readStage_0 16 rfl rfl)
theorem dX11_readStage_17 : decode cX11_readStage 17 = .ok (.aload_n 0, 1) := dk_42 (dk_at dksX11_readStage_0 17 rfl rfl)
theorem dX11_readStage_18 : decode cX11_readStage 18 = .ok (.getfield 14, 3) := dk_180 0 14 (dk_at dksX11_readStage_0 18 rfl rfl)
theorem dX11_readStage_21 : decode cX11_readStage 21 = .ok (.invokevirtual 77, 3) := dk_182 0 77 (dk_at dksX11_readStage_0 21 rfl rfl)
theorem dX11_readStage_24 : decode cX11_readStage 24 = .ok (.aload_n 0, 1) := dk_42 (dk_at dksX11_readStage_1 0 rfl rfl)
theorem dX11_readStage_25 : decode cX11_readStage 25 = .ok (.iconst 0, 1) := dk_3 (dk_at dksX11_readStage_1 1 rfl rfl)
theorem dX11_readStage_26 : decode cX11_readStage 26 = .ok (.putfield 57, 3) := dk_181 0 57 (dk_at dksX11_readStage_1 2 rfl rfl)
theorem dX11_readStage_29 : decode cX11_readStage 29 = .ok (.aload_n 0, 1) := dk_42 (dk_at dksX11_readStage_1 5 rfl rfl)
theorem dX11_readStage_30 : decode cX11_readStage 30 = .ok (.iconst 0, 1) := dk_3 (dk_at dksX11_readStage_1 6 rfl rfl)
theorem dX11_readStage_31 : decode cX11_readStage 31 = .ok (.putfield 47, 3) := dk_181 0 47 (dk_at dksX11_readStage_1 7 rfl rfl)
theorem dX11_readStage_34 : decode cX11_readStage 34 = .ok (.iload_n 1, 1) := dk_27 (dk_at dksX11_readStage_1 10 rfl rfl)
theorem dX11_readStage_35 : decode cX11_readStage 35 = .ok (.tableswitch 113 0 8 #[49, 56, 63, 113, 80, 96, 96, 49, 49], 49) := by decide +kernel
theorem dX11_readStage_84 : decode cX11_readStage 84 = .ok (.aload_n 0, 1) := dk_42 (dk_at dksX11_readStage_3 0 rfl rfl)
theorem dX11_readStage_85 : decode cX11_readStage 85 = .ok (.invokevirtual 150, 3) := dk_182 0 150 (dk_at dksX11_readStage_3 1 rfl rfl)
theorem dX11_readStage_88 : decode cX11_readStage 88 = .ok (.goto 60, 3) := dk_167 0 60 (dk_at dksX11_readStage_3 4 rfl rfl)
theorem dX11_readStage_91 : decode cX11_readStage 91 = .ok (.aload_n 0, 1) := dk_42 (dk_at dksX11_readStage_3 7 rfl rfl)
theorem dX11_readStage_92 : decode cX11_readStage 92 = .ok (.invokevirtual 120, 3) := dk_182 0 120 (dk_at dksX11_readStage_3 8 rfl rfl)
theorem dX11_readStage_95 : decode cX11_readStage 95 = .ok (.goto 53, 3) := dk_167 0 53 (dk_at dksX11_readStage_3 11 rfl rfl)
theorem dX11_readStage_98 : decode cX11_readStage 98 = .ok (.aload_n 0, 1) := dk_42 (dk_at dksX11_readStage_3 14 rfl rfl)
theorem dX11_readStage_99 : decode cX11_readStage 99 = .ok (.aload_n 0, 1) := dk_42 (dk_at dksX11_readStage_3 15 rfl rfl)
theorem dX11_readStage_100 : decode cX11_readStage 100 = .ok (.getfield 14, 3) := dk_180 0 14 (dk_at dksX11_readStage_3 16 rfl rfl)
theorem dX11_readStage_103 : decode cX11_readStage 103 = .ok (.iconst 0, 1) := dk_3 (dk_at dksX11_readStage_3 19 rfl rfl)
theorem dX11_readStage_104 : decode cX11_readStage 104 = .ok (.bipush 100, 2) := dk_16 100 (dk_at dksX11_readStage_3 20 rfl rfl)
theorem dX11_readStage_106 : decode cX11_readStage 106 = .ok (.invokevirtual 111, 3) := dk_182 0 111 (dk_at dksX11_readStage_4 0 rfl rfl)
theorem dX11_readStage_109 : decode cX11_readStage 109 = .ok (.putfield 47, 3) := dk_181 0 47 (dk_at dksX11_readStage_4 3 rfl rfl)
theorem dX11_readStage_112 : decode cX11_readStage 112 = .ok (.goto 36, 3) := dk_167 0 36 (dk_at dksX11_readStage_4 6 rfl rfl)
theorem dX11_readStage_115 : decode cX11_readStage 115 = .ok (.aload_n 0, 1) := dk_42 (dk_at dksX11_readStage_4 9 rfl rfl)
theorem dX11_readStage_116 : decode cX11_readStage 116 = .ok (.aload_n 0, 1) := dk_42 (dk_at dksX11_readStage_4 10 rfl rfl)
theorem dX11_readStage_117 : decode cX11_readStage 117 = .ok (.getfield 14, 3) := dk_180 0 14 (dk_at dksX11_readStage_4 11 rfl rfl)
theorem dX11_readStage_120 : decode cX11_readStage 120 = .ok (.iconst 0, 1) := dk_3 (dk_at dksX11_readStage_4 14 rfl rfl)
theorem dX11_readStage_121 : decode cX11_readStage 121 = .ok (.iconst 3, 1) := dk_6 (dk_at dksX11_readStage_4 15 rfl rfl)
theorem dX11_readStage_122 : decode cX11_readStage 122 = .ok (.invokevirtual 111, 3) := dk_182 0 111 (dk_at dksX11_readStage_4 16 rfl rfl)
theorem dX11_readStage_125 : decode cX11_readStage 125 = .ok (.putfield 47, 3) := dk_181 0 47 (dk_at dksX11_readStage_4 19 rfl rfl)
theorem dX11_readStage_128 : decode cX11_readStage 128 = .ok (.goto 20, 3) := dk_167 0 20 (dk_at dksX11_readStage_5 0 rfl rfl)
theorem dX11_readStage_131 : decode cX11_readStage 131 = .ok (.aload_n 0, 1) := dk_42 (dk_at dksX11_readStage_5 3 rfl rfl)
theorem dX11_readStage_132 : decode cX11_readStage 132 = .ok (.aload_n 0, 1) := dk_42 (dk_at dksX11_readStage_5 4 rfl rfl)
theorem dX11_readStage_133 : decode cX11_readStage 133 = .ok (.getfield 14, 3) := dk_180 0 14 (dk_at dksX11_readStage_5 5 rfl rfl)
theorem dX11_readStage_136 : decode cX11_readStage 136 = .ok (.iconst 0, 1) := dk_3 (dk_at dksX11_readStage_5 8 rfl rfl)
theorem dX11_readStage_137 : decode cX11_readStage 137 = .ok (.ldc 153, 2) := dk_18 153 (dk_at dksX11_readStage_5 9 rfl rfl)
theorem dX11_readStage_139 : decode cX11_readStage 139 = .ok (.invokevirtual 111, 3) := dk_182 0 111 (dk_at dksX11_readStage_5 11 rfl rfl)
theorem dX11_readStage_142 : decode cX11_readStage 142 = .ok (.putfield 47, 3) := dk_181 0 47 (dk_at dksX11_readStage_5 14 rfl rfl)
theorem dX11_readStage_145 : decode cX11_readStage 145 = .ok (.goto 3, 3) := dk_167 0 3 (dk_at dksX11_readStage_5 17 rfl rfl)
theorem dX11_readStage_148 : decode cX11_readStage 148 = .ok (.aload_n 0, 1) := dk_42 (dk_at dksX11_readStage_5 20 rfl rfl)
theorem dX11_readStage_149 : decode cX11_readStage 149 = .ok (.getfield 20, 3) := dk_180 0 20 (dk_at dksX11_readStage_5 21 rfl rfl)
theorem dX11_readStage_152 : decode cX11_readStage 152 = .ok (.aload_n 0, 1) := dk_42 (dk_at dksX11_readStage_6 0 rfl rfl)
theorem dX11_readStage_153 : decode cX11_readStage 153 = .ok (.getfield 147, 3) := dk_180 0 147 (dk_at dksX11_readStage_6 1 rfl rfl)
theorem dX11_readStage_156 : decode cX11_readStage 156 = .ok (.iload_n 1, 1) := dk_27 (dk_at dksX11_readStage_6 4 rfl rfl)
theorem dX11_readStage_157 : decode cX11_readStage 157 = .ok (.iastore, 1) := dk_79 (dk_at dksX11_readStage_6 5 rfl rfl)
theorem dX11_readStage_158 : decode cX11_readStage 158 = .ok (.aload_n 0, 1) := dk_42 (dk_at dksX11_readStage_6 6 rfl rfl)
theorem dX11_readStage_159 : decode cX11_readStage 159 = .ok (.getfield 24, 3) := dk_180 0 24 (dk_at dksX11_readStage_6 7 rfl rfl)
theorem dX11_readStage_162 : decode cX11_readStage 162 = .ok (.aload_n 0, 1) := dk_42 (dk_at dksX11_readStage_6 10 rfl rfl)
theorem dX11_readStage_163 : decode cX11_readStage 163 = .ok (.getfield 147, 3) := dk_180 0 147 (dk_at dksX11_readStage_6 11 rfl rfl)
theorem dX11_readStage_166 : decode cX11_readStage 166 = .ok (.aload_n 0, 1) := dk_42 (dk_at dksX11_readStage_6 14 rfl rfl)
theorem dX11_readStage_167 : decode cX11_readStage 167 = .ok (.getfield 57, 3) := dk_180 0 57 (dk_at dksX11_readStage_6 15 rfl rfl)
theorem dX11_readStage_170 : decode cX11_readStage 170 = .ok (.iastore, 1) := dk_79 (dk_at dksX11_readStage_6 18 rfl rfl)
theorem dX11_readStage_171 : decode cX11_readStage 171 = .ok (.aload_n 0, 1) := dk_42 (dk_at dksX11_readStage_6 19 rfl rfl)
theorem dX11_readStage_172 : decode cX11_readStage 172 = .ok (.getfield 27, 3) := dk_180 0 27 (dk_at dksX11_readStage_6 20 rfl rfl)
theorem dX11_readStage_175 : decode cX11_readStage 175 = .ok (.aload_n 0, 1) := dk_42 (dk_at dksX11_readStage_6 23 rfl rfl)
theorem dX11_readStage_176 : decode cX11_readStage 176 = .ok (.getfield 147, 3) := dk_180 0 147 (dk_at dksX11_readStage_7 0 rfl rfl)
theorem dX11_readStage_179 : decode cX11_readStage 179 = .ok (.aload_n 0, 1) := dk_42 (dk_at dksX11_readStage_7 3 rfl rfl)
theorem dX11_readStage_180 : decode cX11_readStage 180 = .ok (.getfield 47, 3) := dk_180 0 47 (dk_at dksX11_readStage_7 4 rfl rfl)
theorem dX11_readStage_183 : decode cX11_readStage 183 = .ok (.iastore, 1) := dk_79 (dk_at dksX11_readStage_7 7 rfl rfl)
theorem dX11_readStage_184 : decode cX11_readStage 184 = .ok (.aload_n 0, 1) := dk_42 (dk_at dksX11_readStage_7 8 rfl rfl)
theorem dX11_readStage_185 : decode cX11_readStage 185 = .ok (.dup, 1) := dk_89 (dk_at dksX11_readStage_7 9 rfl rfl)
theorem dX11_readStage_186 : decode cX11_readStage 186 = .ok (.getfield 147, 3) := dk_180 0 147 (dk_at dksX11_readStage_7 10 rfl rfl)
theorem dX11_readStage_189 : decode cX11_readStage 189 = .ok (.iconst 1, 1) := dk_4 (dk_at dksX11_readStage_7 13 rfl rfl)
theorem dX11_readStage_190 : decode cX11_readStage 190 = .ok (.iadd, 1) := dk_96 (dk_at dksX11_readStage_7 14 rfl rfl)
theorem dX11_readStage_191 : decode cX11_readStage 191 = .ok (.putfield 147, 3) := dk_181 0 147 (dk_at dksX11_readStage_7 15 rfl rfl)
theorem dX11_readStage_194 : decode cX11_readStage 194 = .ok (.return_, 1) := dk_177 (dk_at dksX11_readStage_7 18 rfl rfl)
abbrev cX11_predicate : ByteArray := prog_29_method_2_code
def yX11_predicate : MethodName := ⟨RX11, "predicate", "()V"⟩
def dkwX11_predicate_6 : List UInt8 := [180, 0, 14, 182, 0, 80, 181, 0, 47, 177]
abbrev dktX11_predicate_6 : List UInt8 := dkwX11_predicate_6 ++ []
def dkwX11_predicate_5 : List UInt8 := [180, 0, 57, 156, 0, 11, 42, 180, 0, 14, 182, 0, 73, 191, 42, 180, 0, 14, 182, 0, 77, 42, 42]
abbrev dktX11_predicate_5 : List UInt8 := dkwX11_predicate_5 ++ dktX11_predicate_6
def dkwX11_predicate_4 : List UInt8 := [167, 0, 20, 42, 180, 0, 14, 18, 71, 182, 0, 64, 153, 0, 7, 8, 167, 0, 4, 2, 181, 0, 57, 42]
abbrev dktX11_predicate_4 : List UInt8 := dkwX11_predicate_4 ++ dktX11_predicate_5
def dkwX11_predicate_3 : List UInt8 := [182, 0, 64, 153, 0, 7, 6, 167, 0, 36, 42, 180, 0, 14, 18, 69, 182, 0, 64, 153, 0, 7, 7]
abbrev dktX11_predicate_3 : List UInt8 := dkwX11_predicate_3 ++ dktX11_predicate_4
def dkwX11_predicate_2 : List UInt8 := [42, 180, 0, 14, 18, 62, 182, 0, 64, 153, 0, 7, 5, 167, 0, 52, 42, 180, 0, 14, 18, 67]
abbrev dktX11_predicate_2 : List UInt8 := dkwX11_predicate_2 ++ dktX11_predicate_3
def dkwX11_predicate_1 : List UInt8 := [167, 0, 125, 42, 180, 0, 14, 18, 60, 182, 0, 53, 153, 0, 11, 42, 4, 181, 0, 57, 167, 0, 105, 42]
abbrev dktX11_predicate_1 : List UInt8 := dkwX11_predicate_1 ++ dktX11_predicate_2
def dkwX11_predicate_0 : List UInt8 := [42, 3, 181, 0, 47, 42, 180, 0, 14, 18, 51, 182, 0, 53, 153, 0, 11, 42, 3, 181, 0, 57]
abbrev dktX11_predicate_0 : List UInt8 := dkwX11_predicate_0 ++ dktX11_predicate_1
theorem dksX11_predicate_0 : cX11_predicate.data.toList.drop 0 = dktX11_predicate_0 := by decide +kernel
theorem dksX11_predicate_1 : cX11_predicate.data.toList.drop 22 = dktX11_predicate_1 := dk_seg dksX11_predicate_0 22 rfl rfl
theorem dksX11_predicate_2 : cX11_predicate.data.toList.drop 46 = dktX11_predicate_2 := dk_seg dksX11_predicate_1 24 rfl rfl
theorem dksX11_predicate_3 : cX11_predicate.data.toList.drop 68 = dktX11_predicate_3 := dk_seg dksX11_predicate_2 22 rfl rfl
theorem dksX11_predicate_4 : cX11_predicate.data.toList.drop 91 = dktX11_predicate_4 := dk_seg dksX11_predicate_3 23 rfl rfl
theorem dksX11_predicate_5 : cX11_predicate.data.toList.drop 115 = dktX11_predicate_5 := dk_seg dksX11_predicate_4 24 rfl rfl
theorem dksX11_predicate_6 : cX11_predicate.data.toList.drop 138 = dktX11_predicate_6 := dk_seg dksX11_predicate_5 23 rfl rfl
theorem dX11_predicate_0 : decode cX11_predicate 0 = .ok (.aload_n 0, 1) := dk_42 (dk_at dksX11_predicate_0 0 rfl rfl)
theorem dX11_predicate_1 : decode cX11_predicate 1 = .ok (.iconst 0, 1) := dk_3 (dk_at dksX11_predicate_0 1 rfl rfl)
theorem dX11_predicate_2 : decode cX11_predicate 2 = .ok (.putfield 47, 3) := dk_181 0 47 (dk_at dksX11_predicate_0 2 rfl rfl)
theorem dX11_predicate_5 : decode cX11_predicate 5 = .ok (.aload_n 0, 1) := dk_42 (dk_at dksX11_predicate_0 5 rfl rfl)
theorem dX11_predicate_6 : decode cX11_predicate 6 = .ok (.getfield 14, 3) := dk_180 0 14 (dk_at dksX11_predicate_0 6 rfl rfl)
theorem dX11_predicate_9 : decode cX11_predicate 9 = .ok (.ldc 51, 2) := dk_18 51 (dk_at dksX11_predicate_0 9 rfl rfl)
theorem dX11_predicate_11 : decode cX11_predicate 11 = .ok (.invokevirtual 53, 3) := dk_182 0 53 (dk_at dksX11_predicate_0 11 rfl rfl)
theorem dX11_predicate_14 : decode cX11_predicate 14 = .ok (.ifCond .eq 11, 3) := dk_153 0 11 (dk_at dksX11_predicate_0 14 rfl rfl)
theorem dX11_predicate_17 : decode cX11_predicate 17 = .ok (.aload_n 0, 1) := dk_42 (dk_at dksX11_predicate_0 17 rfl rfl)
theorem dX11_predicate_18 : decode cX11_predicate 18 = .ok (.iconst 0, 1) := dk_3 (dk_at dksX11_predicate_0 18 rfl rfl)
theorem dX11_predicate_19 : decode cX11_predicate 19 = .ok (.putfield 57, 3) := dk_181 0 57 (dk_at dksX11_predicate_0 19 rfl rfl)
theorem dX11_predicate_22 : decode cX11_predicate 22 = .ok (.goto 125, 3) := dk_167 0 125 (dk_at dksX11_predicate_1 0 rfl rfl)
theorem dX11_predicate_25 : decode cX11_predicate 25 = .ok (.aload_n 0, 1) := dk_42 (dk_at dksX11_predicate_1 3 rfl rfl)
theorem dX11_predicate_26 : decode cX11_predicate 26 = .ok (.getfield 14, 3) := dk_180 0 14 (dk_at dksX11_predicate_1 4 rfl rfl)
theorem dX11_predicate_29 : decode cX11_predicate 29 = .ok (.ldc 60, 2) := dk_18 60 (dk_at dksX11_predicate_1 7 rfl rfl)
theorem dX11_predicate_31 : decode cX11_predicate 31 = .ok (.invokevirtual 53, 3) := dk_182 0 53 (dk_at dksX11_predicate_1 9 rfl rfl)
theorem dX11_predicate_34 : decode cX11_predicate 34 = .ok (.ifCond .eq 11, 3) := dk_153 0 11 (dk_at dksX11_predicate_1 12 rfl rfl)
theorem dX11_predicate_37 : decode cX11_predicate 37 = .ok (.aload_n 0, 1) := dk_42 (dk_at dksX11_predicate_1 15 rfl rfl)
theorem dX11_predicate_38 : decode cX11_predicate 38 = .ok (.iconst 1, 1) := dk_4 (dk_at dksX11_predicate_1 16 rfl rfl)
theorem dX11_predicate_39 : decode cX11_predicate 39 = .ok (.putfield 57, 3) := dk_181 0 57 (dk_at dksX11_predicate_1 17 rfl rfl)
theorem dX11_predicate_42 : decode cX11_predicate 42 = .ok (.goto 105, 3) := dk_167 0 105 (dk_at dksX11_predicate_1 20 rfl rfl)
theorem dX11_predicate_45 : decode cX11_predicate 45 = .ok (.aload_n 0, 1) := dk_42 (dk_at dksX11_predicate_1 23 rfl rfl)
theorem dX11_predicate_46 : decode cX11_predicate 46 = .ok (.aload_n 0, 1) := dk_42 (dk_at dksX11_predicate_2 0 rfl rfl)
theorem dX11_predicate_47 : decode cX11_predicate 47 = .ok (.getfield 14, 3) := dk_180 0 14 (dk_at dksX11_predicate_2 1 rfl rfl)
theorem dX11_predicate_50 : decode cX11_predicate 50 = .ok (.ldc 62, 2) := dk_18 62 (dk_at dksX11_predicate_2 4 rfl rfl)
theorem dX11_predicate_52 : decode cX11_predicate 52 = .ok (.invokevirtual 64, 3) := dk_182 0 64 (dk_at dksX11_predicate_2 6 rfl rfl)
theorem dX11_predicate_55 : decode cX11_predicate 55 = .ok (.ifCond .eq 7, 3) := dk_153 0 7 (dk_at dksX11_predicate_2 9 rfl rfl)
theorem dX11_predicate_58 : decode cX11_predicate 58 = .ok (.iconst 2, 1) := dk_5 (dk_at dksX11_predicate_2 12 rfl rfl)
theorem dX11_predicate_59 : decode cX11_predicate 59 = .ok (.goto 52, 3) := dk_167 0 52 (dk_at dksX11_predicate_2 13 rfl rfl)
theorem dX11_predicate_62 : decode cX11_predicate 62 = .ok (.aload_n 0, 1) := dk_42 (dk_at dksX11_predicate_2 16 rfl rfl)
theorem dX11_predicate_63 : decode cX11_predicate 63 = .ok (.getfield 14, 3) := dk_180 0 14 (dk_at dksX11_predicate_2 17 rfl rfl)
theorem dX11_predicate_66 : decode cX11_predicate 66 = .ok (.ldc 67, 2) := dk_18 67 (dk_at dksX11_predicate_2 20 rfl rfl)
theorem dX11_predicate_68 : decode cX11_predicate 68 = .ok (.invokevirtual 64, 3) := dk_182 0 64 (dk_at dksX11_predicate_3 0 rfl rfl)
theorem dX11_predicate_71 : decode cX11_predicate 71 = .ok (.ifCond .eq 7, 3) := dk_153 0 7 (dk_at dksX11_predicate_3 3 rfl rfl)
theorem dX11_predicate_74 : decode cX11_predicate 74 = .ok (.iconst 3, 1) := dk_6 (dk_at dksX11_predicate_3 6 rfl rfl)
theorem dX11_predicate_75 : decode cX11_predicate 75 = .ok (.goto 36, 3) := dk_167 0 36 (dk_at dksX11_predicate_3 7 rfl rfl)
theorem dX11_predicate_78 : decode cX11_predicate 78 = .ok (.aload_n 0, 1) := dk_42 (dk_at dksX11_predicate_3 10 rfl rfl)
theorem dX11_predicate_79 : decode cX11_predicate 79 = .ok (.getfield 14, 3) := dk_180 0 14 (dk_at dksX11_predicate_3 11 rfl rfl)
theorem dX11_predicate_82 : decode cX11_predicate 82 = .ok (.ldc 69, 2) := dk_18 69 (dk_at dksX11_predicate_3 14 rfl rfl)
theorem dX11_predicate_84 : decode cX11_predicate 84 = .ok (.invokevirtual 64, 3) := dk_182 0 64 (dk_at dksX11_predicate_3 16 rfl rfl)
theorem dX11_predicate_87 : decode cX11_predicate 87 = .ok (.ifCond .eq 7, 3) := dk_153 0 7 (dk_at dksX11_predicate_3 19 rfl rfl)
theorem dX11_predicate_90 : decode cX11_predicate 90 = .ok (.iconst 4, 1) := dk_7 (dk_at dksX11_predicate_3 22 rfl rfl)
theorem dX11_predicate_91 : decode cX11_predicate 91 = .ok (.goto 20, 3) := dk_167 0 20 (dk_at dksX11_predicate_4 0 rfl rfl)
theorem dX11_predicate_94 : decode cX11_predicate 94 = .ok (.aload_n 0, 1) := dk_42 (dk_at dksX11_predicate_4 3 rfl rfl)
theorem dX11_predicate_95 : decode cX11_predicate 95 = .ok (.getfield 14, 3) := dk_180 0 14 (dk_at dksX11_predicate_4 4 rfl rfl)
theorem dX11_predicate_98 : decode cX11_predicate 98 = .ok (.ldc 71, 2) := dk_18 71 (dk_at dksX11_predicate_4 7 rfl rfl)
theorem dX11_predicate_100 : decode cX11_predicate 100 = .ok (.invokevirtual 64, 3) := dk_182 0 64 (dk_at dksX11_predicate_4 9 rfl rfl)
theorem dX11_predicate_103 : decode cX11_predicate 103 = .ok (.ifCond .eq 7, 3) := dk_153 0 7 (dk_at dksX11_predicate_4 12 rfl rfl)
theorem dX11_predicate_106 : decode cX11_predicate 106 = .ok (.iconst 5, 1) := dk_8 (dk_at dksX11_predicate_4 15 rfl rfl)
theorem dX11_predicate_107 : decode cX11_predicate 107 = .ok (.goto 4, 3) := dk_167 0 4 (dk_at dksX11_predicate_4 16 rfl rfl)
theorem dX11_predicate_110 : decode cX11_predicate 110 = .ok (.iconst (-1), 1) := dk_2 (dk_at dksX11_predicate_4 19 rfl rfl)
theorem dX11_predicate_111 : decode cX11_predicate 111 = .ok (.putfield 57, 3) := dk_181 0 57 (dk_at dksX11_predicate_4 20 rfl rfl)
theorem dX11_predicate_114 : decode cX11_predicate 114 = .ok (.aload_n 0, 1) := dk_42 (dk_at dksX11_predicate_4 23 rfl rfl)
theorem dX11_predicate_115 : decode cX11_predicate 115 = .ok (.getfield 57, 3) := dk_180 0 57 (dk_at dksX11_predicate_5 0 rfl rfl)
theorem dX11_predicate_118 : decode cX11_predicate 118 = .ok (.ifCond .ge 11, 3) := dk_156 0 11 (dk_at dksX11_predicate_5 3 rfl rfl)
theorem dX11_predicate_121 : decode cX11_predicate 121 = .ok (.aload_n 0, 1) := dk_42 (dk_at dksX11_predicate_5 6 rfl rfl)
theorem dX11_predicate_122 : decode cX11_predicate 122 = .ok (.getfield 14, 3) := dk_180 0 14 (dk_at dksX11_predicate_5 7 rfl rfl)
theorem dX11_predicate_125 : decode cX11_predicate 125 = .ok (.invokevirtual 73, 3) := dk_182 0 73 (dk_at dksX11_predicate_5 10 rfl rfl)
theorem dX11_predicate_128 : decode cX11_predicate 128 = .ok (.athrow, 1) := dk_191 (dk_at dksX11_predicate_5 13 rfl rfl)
theorem dX11_predicate_129 : decode cX11_predicate 129 = .ok (.aload_n 0, 1) := dk_42 (dk_at dksX11_predicate_5 14 rfl rfl)
theorem dX11_predicate_130 : decode cX11_predicate 130 = .ok (.getfield 14, 3) := dk_180 0 14 (dk_at dksX11_predicate_5 15 rfl rfl)
theorem dX11_predicate_133 : decode cX11_predicate 133 = .ok (.invokevirtual 77, 3) := dk_182 0 77 (dk_at dksX11_predicate_5 18 rfl rfl)
theorem dX11_predicate_136 : decode cX11_predicate 136 = .ok (.aload_n 0, 1) := dk_42 (dk_at dksX11_predicate_5 21 rfl rfl)
theorem dX11_predicate_137 : decode cX11_predicate 137 = .ok (.aload_n 0, 1) := dk_42 (dk_at dksX11_predicate_5 22 rfl rfl)
theorem dX11_predicate_138 : decode cX11_predicate 138 = .ok (.getfield 14, 3) := dk_180 0 14 (dk_at dksX11_predicate_6 0 rfl rfl)
theorem dX11_predicate_141 : decode cX11_predicate 141 = .ok (.invokevirtual 80, 3) := dk_182 0 80 (dk_at dksX11_predicate_6 3 rfl rfl)
theorem dX11_predicate_144 : decode cX11_predicate 144 = .ok (.putfield 47, 3) := dk_181 0 47 (dk_at dksX11_predicate_6 6 rfl rfl)
theorem dX11_predicate_147 : decode cX11_predicate 147 = .ok (.return_, 1) := dk_177 (dk_at dksX11_predicate_6 9 rfl rfl)
abbrev cX11_readEnd : ByteArray := prog_29_method_8_code
def yX11_readEnd : MethodName := ⟨RX11, "readEnd", "()V"⟩
def dkwX11_readEnd_8 : List UInt8 := [160, 0, 17, 42, 42, 180, 0, 14, 4, 18, 153, 182, 0, 111, 181, 0, 181, 177]
abbrev dktX11_readEnd_8 : List UInt8 := dkwX11_readEnd_8 ++ []
def dkwX11_readEnd_7 : List UInt8 := [180, 0, 14, 182, 0, 73, 191, 42, 180, 0, 14, 182, 0, 77, 167, 0, 26, 42, 180, 0, 175, 16, 10]
abbrev dktX11_readEnd_7 : List UInt8 := dkwX11_readEnd_7 ++ dktX11_readEnd_8
def dkwX11_readEnd_6 : List UInt8 := [18, 184, 182, 0, 64, 153, 0, 7, 6, 167, 0, 4, 2, 181, 0, 178, 42, 180, 0, 178, 156, 0, 11, 42]
abbrev dktX11_readEnd_6 : List UInt8 := dkwX11_readEnd_6 ++ dktX11_readEnd_7
def dkwX11_readEnd_5 : List UInt8 := [4, 167, 0, 36, 42, 180, 0, 14, 18, 62, 182, 0, 64, 153, 0, 7, 5, 167, 0, 20, 42, 180, 0, 14]
abbrev dktX11_readEnd_5 : List UInt8 := dkwX11_readEnd_5 ++ dktX11_readEnd_6
def dkwX11_readEnd_4 : List UInt8 := [18, 88, 182, 0, 64, 153, 0, 7, 3, 167, 0, 52, 42, 180, 0, 14, 18, 92, 182, 0, 64, 153, 0, 7]
abbrev dktX11_readEnd_4 : List UInt8 := dkwX11_readEnd_4 ++ dktX11_readEnd_5
def dkwX11_readEnd_3 : List UInt8 := [180, 0, 175, 16, 8, 160, 0, 108, 42, 42, 180, 0, 14, 182, 0, 80, 181, 0, 181, 42, 42, 180, 0, 14]
abbrev dktX11_readEnd_3 : List UInt8 := dkwX11_readEnd_3 ++ dktX11_readEnd_4
def dkwX11_readEnd_2 : List UInt8 := [182, 0, 150, 42, 42, 180, 0, 57, 181, 0, 178, 42, 42, 180, 0, 47, 181, 0, 181, 167, 0, 140, 42]
abbrev dktX11_readEnd_2 : List UInt8 := dkwX11_readEnd_2 ++ dktX11_readEnd_3
def dkwX11_readEnd_1 : List UInt8 := [180, 0, 14, 182, 0, 77, 42, 180, 0, 175, 8, 161, 0, 35, 42, 180, 0, 175, 16, 7, 163, 0, 26, 42]
abbrev dktX11_readEnd_1 : List UInt8 := dkwX11_readEnd_1 ++ dktX11_readEnd_2
def dkwX11_readEnd_0 : List UInt8 := [42, 42, 182, 0, 172, 181, 0, 175, 42, 180, 0, 175, 156, 0, 11, 42, 180, 0, 14, 182, 0, 73, 191, 42]
abbrev dktX11_readEnd_0 : List UInt8 := dkwX11_readEnd_0 ++ dktX11_readEnd_1
theorem dksX11_readEnd_0 : cX11_readEnd.data.toList.drop 0 = dktX11_readEnd_0 := by decide +kernel
theorem dksX11_readEnd_1 : cX11_readEnd.data.toList.drop 24 = dktX11_readEnd_1 := dk_seg dksX11_readEnd_0 24 rfl rfl
theorem dksX11_readEnd_2 : cX11_readEnd.data.toList.drop 48 = dktX11_readEnd_2 := dk_seg dksX11_readEnd_1 24 rfl rfl
theorem dksX11_readEnd_3 : cX11_readEnd.data.toList.drop 71 = dktX11_readEnd_3 := dk_seg dksX11_readEnd_2 23 rfl rfl
theorem dksX11_readEnd_4 : cX11_readEnd.data.toList.drop 95 = dktX11_readEnd_4 := dk_seg dksX11_readEnd_3 24 rfl rfl
theorem dksX11_readEnd_5 : cX11_readEnd.data.toList.drop 119 = dktX11_readEnd_5 := dk_seg dksX11_readEnd_4 24 rfl rfl
theorem dksX11_readEnd_6 : cX11_readEnd.data.toList.drop 143 = dktX11_readEnd_6 := dk_seg dksX11_readEnd_5 24 rfl rfl
theorem dksX11_readEnd_7 : cX11_readEnd.data.toList.drop 167 = dktX11_readEnd_7 := dk_seg dksX11_readEnd_6 24 rfl rfl
theorem dksX11_readEnd_8 : cX11_readEnd.data.toList.drop 190 = dktX11_readEnd_8 := dk_seg dksX11_readEnd_7 23 rfl rfl
theorem dX11_readEnd_0 : decode cX11_readEnd 0 = .ok (.aload_n 0, 1) := dk_42 (dk_at dksX11_readEnd_0 0 rfl rfl)
theorem dX11_readEnd_1 : decode cX11_readEnd 1 = .ok (.aload_n 0, 1) := dk_42 (dk_at dksX11_readEnd_0 1 rfl rfl)
theorem dX11_readEnd_2 : decode cX11_readEnd 2 = .ok (.invokevirtual 172, 3) := dk_182 0 172 (dk_at dksX11_readEnd_0 2 rfl rfl)
theorem dX11_readEnd_5 : decode cX11_readEnd 5 = .ok (.putfield 175, 3) := dk_181 0 175 (dk_at dksX11_readEnd_0 5 rfl rfl)
theorem dX11_readEnd_8 : decode cX11_readEnd 8 = .ok (.aload_n 0, 1) := dk_42 (dk_at dksX11_readEnd_0 8 rfl rfl)
theorem dX11_readEnd_9 : decode cX11_readEnd 9 = .ok (.getfield 175, 3) := dk_180 0 175 (dk_at dksX11_readEnd_0 9 rfl rfl)
theorem dX11_readEnd_12 : decode cX11_readEnd 12 = .ok (.ifCond .ge 11, 3) := dk_156 0 11 (dk_at dksX11_readEnd_0 12 rfl rfl)
theorem dX11_readEnd_15 : decode cX11_readEnd 15 = .ok (.aload_n 0, 1) := dk_42 (dk_at dksX11_readEnd_0 15 rfl rfl)
theorem dX11_readEnd_16 : decode cX11_readEnd 16 = .ok (.getfield 14, 3) := dk_180 0 14 (dk_at dksX11_readEnd_0 16 rfl rfl)
theorem dX11_readEnd_19 : decode cX11_readEnd 19 = .ok (.invokevirtual 73, 3) := dk_182 0 73 (dk_at dksX11_readEnd_0 19 rfl rfl)
theorem dX11_readEnd_22 : decode cX11_readEnd 22 = .ok (.athrow, 1) := dk_191 (dk_at dksX11_readEnd_0 22 rfl rfl)
theorem dX11_readEnd_23 : decode cX11_readEnd 23 = .ok (.aload_n 0, 1) := dk_42 (dk_at dksX11_readEnd_0 23 rfl rfl)
theorem dX11_readEnd_24 : decode cX11_readEnd 24 = .ok (.getfield 14, 3) := dk_180 0 14 (dk_at dksX11_readEnd_1 0 rfl rfl)
theorem dX11_readEnd_27 : decode cX11_readEnd 27 = .ok (.invokevirtual 77, 3) := dk_182 0 77 (dk_at dksX11_readEnd_1 3 rfl rfl)
theorem dX11_readEnd_30 : decode cX11_readEnd 30 = .ok (.aload_n 0, 1) := dk_42 (dk_at dksX11_readEnd_1 6 rfl rfl)
theorem dX11_readEnd_31 : decode cX11_readEnd 31 = .ok (.getfield 175, 3) := dk_180 0 175 (dk_at dksX11_readEnd_1 7 rfl rfl)
theorem dX11_readEnd_34 : decode cX11_readEnd 34 = .ok (.iconst 5, 1) := dk_8 (dk_at dksX11_readEnd_1 10 rfl rfl)
theorem dX11_readEnd_35 : decode cX11_readEnd 35 = .ok (.if_icmp .lt 35, 3) := dk_161 0 35 (dk_at dksX11_readEnd_1 11 rfl rfl)
theorem dX11_readEnd_38 : decode cX11_readEnd 38 = .ok (.aload_n 0, 1) := dk_42 (dk_at dksX11_readEnd_1 14 rfl rfl)
theorem dX11_readEnd_39 : decode cX11_readEnd 39 = .ok (.getfield 175, 3) := dk_180 0 175 (dk_at dksX11_readEnd_1 15 rfl rfl)
theorem dX11_readEnd_42 : decode cX11_readEnd 42 = .ok (.bipush 7, 2) := dk_16 7 (dk_at dksX11_readEnd_1 18 rfl rfl)
theorem dX11_readEnd_44 : decode cX11_readEnd 44 = .ok (.if_icmp .gt 26, 3) := dk_163 0 26 (dk_at dksX11_readEnd_1 20 rfl rfl)
theorem dX11_readEnd_47 : decode cX11_readEnd 47 = .ok (.aload_n 0, 1) := dk_42 (dk_at dksX11_readEnd_1 23 rfl rfl)
theorem dX11_readEnd_48 : decode cX11_readEnd 48 = .ok (.invokevirtual 150, 3) := dk_182 0 150 (dk_at dksX11_readEnd_2 0 rfl rfl)
theorem dX11_readEnd_51 : decode cX11_readEnd 51 = .ok (.aload_n 0, 1) := dk_42 (dk_at dksX11_readEnd_2 3 rfl rfl)
theorem dX11_readEnd_52 : decode cX11_readEnd 52 = .ok (.aload_n 0, 1) := dk_42 (dk_at dksX11_readEnd_2 4 rfl rfl)
theorem dX11_readEnd_53 : decode cX11_readEnd 53 = .ok (.getfield 57, 3) := dk_180 0 57 (dk_at dksX11_readEnd_2 5 rfl rfl)
theorem dX11_readEnd_56 : decode cX11_readEnd 56 = .ok (.putfield 178, 3) := dk_181 0 178 (dk_at dksX11_readEnd_2 8 rfl rfl)
theorem dX11_readEnd_59 : decode cX11_readEnd 59 = .ok (.aload_n 0, 1) := dk_42 (dk_at dksX11_readEnd_2 11 rfl rfl)
theorem dX11_readEnd_60 : decode cX11_readEnd 60 = .ok (.aload_n 0, 1) := dk_42 (dk_at dksX11_readEnd_2 12 rfl rfl)
theorem dX11_readEnd_61 : decode cX11_readEnd 61 = .ok (.getfield 47, 3) := dk_180 0 47 (dk_at dksX11_readEnd_2 13 rfl rfl)
theorem dX11_readEnd_64 : decode cX11_readEnd 64 = .ok (.putfield 181, 3) := dk_181 0 181 (dk_at dksX11_readEnd_2 16 rfl rfl)
theorem dX11_readEnd_67 : decode cX11_readEnd 67 = .ok (.goto 140, 3) := dk_167 0 140 (dk_at dksX11_readEnd_2 19 rfl rfl)
theorem dX11_readEnd_70 : decode cX11_readEnd 70 = .ok (.aload_n 0, 1) := dk_42 (dk_at dksX11_readEnd_2 22 rfl rfl)
theorem dX11_readEnd_71 : decode cX11_readEnd 71 = .ok (.getfield 175, 3) := dk_180 0 175 (dk_at dksX11_readEnd_3 0 rfl rfl)
theorem dX11_readEnd_74 : decode cX11_readEnd 74 = .ok (.bipush 8, 2) := dk_16 8 (dk_at dksX11_readEnd_3 3 rfl rfl)
theorem dX11_readEnd_76 : decode cX11_readEnd 76 = .ok (.if_icmp .ne 108, 3) := dk_160 0 108 (dk_at dksX11_readEnd_3 5 rfl rfl)
theorem dX11_readEnd_79 : decode cX11_readEnd 79 = .ok (.aload_n 0, 1) := dk_42 (dk_at dksX11_readEnd_3 8 rfl rfl)
theorem dX11_readEnd_80 : decode cX11_readEnd 80 = .ok (.aload_n 0, 1) := dk_42 (dk_at dksX11_readEnd_3 9 rfl rfl)
theorem dX11_readEnd_81 : decode cX11_readEnd 81 = .ok (.getfield 14, 3) := dk_180 0 14 (dk_at dksX11_readEnd_3 10 rfl rfl)
theorem dX11_readEnd_84 : decode cX11_readEnd 84 = .ok (.invokevirtual 80, 3) := dk_182 0 80 (dk_at dksX11_readEnd_3 13 rfl rfl)
theorem dX11_readEnd_87 : decode cX11_readEnd 87 = .ok (.putfield 181, 3) := dk_181 0 181 (dk_at dksX11_readEnd_3 16 rfl rfl)
theorem dX11_readEnd_90 : decode cX11_readEnd 90 = .ok (.aload_n 0, 1) := dk_42 (dk_at dksX11_readEnd_3 19 rfl rfl)
theorem dX11_readEnd_91 : decode cX11_readEnd 91 = .ok (.aload_n 0, 1) := dk_42 (dk_at dksX11_readEnd_3 20 rfl rfl)
theorem dX11_readEnd_92 : decode cX11_readEnd 92 = .ok (.getfield 14, 3) := dk_180 0 14 (dk_at dksX11_readEnd_3 21 rfl rfl)
theorem dX11_readEnd_95 : decode cX11_readEnd 95 = .ok (.ldc 88, 2) := dk_18 88 (dk_at dksX11_readEnd_4 0 rfl rfl)
theorem dX11_readEnd_97 : decode cX11_readEnd 97 = .ok (.invokevirtual 64, 3) := dk_182 0 64 (dk_at dksX11_readEnd_4 2 rfl rfl)
theorem dX11_readEnd_100 : decode cX11_readEnd 100 = .ok (.ifCond .eq 7, 3) := dk_153 0 7 (dk_at dksX11_readEnd_4 5 rfl rfl)
theorem dX11_readEnd_103 : decode cX11_readEnd 103 = .ok (.iconst 0, 1) := dk_3 (dk_at dksX11_readEnd_4 8 rfl rfl)
theorem dX11_readEnd_104 : decode cX11_readEnd 104 = .ok (.goto 52, 3) := dk_167 0 52 (dk_at dksX11_readEnd_4 9 rfl rfl)
theorem dX11_readEnd_107 : decode cX11_readEnd 107 = .ok (.aload_n 0, 1) := dk_42 (dk_at dksX11_readEnd_4 12 rfl rfl)
theorem dX11_readEnd_108 : decode cX11_readEnd 108 = .ok (.getfield 14, 3) := dk_180 0 14 (dk_at dksX11_readEnd_4 13 rfl rfl)
theorem dX11_readEnd_111 : decode cX11_readEnd 111 = .ok (.ldc 92, 2) := dk_18 92 (dk_at dksX11_readEnd_4 16 rfl rfl)
theorem dX11_readEnd_113 : decode cX11_readEnd 113 = .ok (.invokevirtual 64, 3) := dk_182 0 64 (dk_at dksX11_readEnd_4 18 rfl rfl)
theorem dX11_readEnd_116 : decode cX11_readEnd 116 = .ok (.ifCond .eq 7, 3) := dk_153 0 7 (dk_at dksX11_readEnd_4 21 rfl rfl)
theorem dX11_readEnd_119 : decode cX11_readEnd 119 = .ok (.iconst 1, 1) := dk_4 (dk_at dksX11_readEnd_5 0 rfl rfl)
theorem dX11_readEnd_120 : decode cX11_readEnd 120 = .ok (.goto 36, 3) := dk_167 0 36 (dk_at dksX11_readEnd_5 1 rfl rfl)
theorem dX11_readEnd_123 : decode cX11_readEnd 123 = .ok (.aload_n 0, 1) := dk_42 (dk_at dksX11_readEnd_5 4 rfl rfl)
theorem dX11_readEnd_124 : decode cX11_readEnd 124 = .ok (.getfield 14, 3) := dk_180 0 14 (dk_at dksX11_readEnd_5 5 rfl rfl)
theorem dX11_readEnd_127 : decode cX11_readEnd 127 = .ok (.ldc 62, 2) := dk_18 62 (dk_at dksX11_readEnd_5 8 rfl rfl)
theorem dX11_readEnd_129 : decode cX11_readEnd 129 = .ok (.invokevirtual 64, 3) := dk_182 0 64 (dk_at dksX11_readEnd_5 10 rfl rfl)
theorem dX11_readEnd_132 : decode cX11_readEnd 132 = .ok (.ifCond .eq 7, 3) := dk_153 0 7 (dk_at dksX11_readEnd_5 13 rfl rfl)
theorem dX11_readEnd_135 : decode cX11_readEnd 135 = .ok (.iconst 2, 1) := dk_5 (dk_at dksX11_readEnd_5 16 rfl rfl)
theorem dX11_readEnd_136 : decode cX11_readEnd 136 = .ok (.goto 20, 3) := dk_167 0 20 (dk_at dksX11_readEnd_5 17 rfl rfl)
theorem dX11_readEnd_139 : decode cX11_readEnd 139 = .ok (.aload_n 0, 1) := dk_42 (dk_at dksX11_readEnd_5 20 rfl rfl)
theorem dX11_readEnd_140 : decode cX11_readEnd 140 = .ok (.getfield 14, 3) := dk_180 0 14 (dk_at dksX11_readEnd_5 21 rfl rfl)
theorem dX11_readEnd_143 : decode cX11_readEnd 143 = .ok (.ldc 184, 2) := dk_18 184 (dk_at dksX11_readEnd_6 0 rfl rfl)
theorem dX11_readEnd_145 : decode cX11_readEnd 145 = .ok (.invokevirtual 64, 3) := dk_182 0 64 (dk_at dksX11_readEnd_6 2 rfl rfl)
theorem dX11_readEnd_148 : decode cX11_readEnd 148 = .ok (.ifCond .eq 7, 3) := dk_153 0 7 (dk_at dksX11_readEnd_6 5 rfl rfl)
theorem dX11_readEnd_151 : decode cX11_readEnd 151 = .ok (.iconst 3, 1) := dk_6 (dk_at dksX11_readEnd_6 8 rfl rfl)
theorem dX11_readEnd_152 : decode cX11_readEnd 152 = .ok (.goto 4, 3) := dk_167 0 4 (dk_at dksX11_readEnd_6 9 rfl rfl)
theorem dX11_readEnd_155 : decode cX11_readEnd 155 = .ok (.iconst (-1), 1) := dk_2 (dk_at dksX11_readEnd_6 12 rfl rfl)
theorem dX11_readEnd_156 : decode cX11_readEnd 156 = .ok (.putfield 178, 3) := dk_181 0 178 (dk_at dksX11_readEnd_6 13 rfl rfl)
theorem dX11_readEnd_159 : decode cX11_readEnd 159 = .ok (.aload_n 0, 1) := dk_42 (dk_at dksX11_readEnd_6 16 rfl rfl)
theorem dX11_readEnd_160 : decode cX11_readEnd 160 = .ok (.getfield 178, 3) := dk_180 0 178 (dk_at dksX11_readEnd_6 17 rfl rfl)
theorem dX11_readEnd_163 : decode cX11_readEnd 163 = .ok (.ifCond .ge 11, 3) := dk_156 0 11 (dk_at dksX11_readEnd_6 20 rfl rfl)
theorem dX11_readEnd_166 : decode cX11_readEnd 166 = .ok (.aload_n 0, 1) := dk_42 (dk_at dksX11_readEnd_6 23 rfl rfl)
theorem dX11_readEnd_167 : decode cX11_readEnd 167 = .ok (.getfield 14, 3) := dk_180 0 14 (dk_at dksX11_readEnd_7 0 rfl rfl)
theorem dX11_readEnd_170 : decode cX11_readEnd 170 = .ok (.invokevirtual 73, 3) := dk_182 0 73 (dk_at dksX11_readEnd_7 3 rfl rfl)
theorem dX11_readEnd_173 : decode cX11_readEnd 173 = .ok (.athrow, 1) := dk_191 (dk_at dksX11_readEnd_7 6 rfl rfl)
theorem dX11_readEnd_174 : decode cX11_readEnd 174 = .ok (.aload_n 0, 1) := dk_42 (dk_at dksX11_readEnd_7 7 rfl rfl)
theorem dX11_readEnd_175 : decode cX11_readEnd 175 = .ok (.getfield 14, 3) := dk_180 0 14 (dk_at dksX11_readEnd_7 8 rfl rfl)
theorem dX11_readEnd_178 : decode cX11_readEnd 178 = .ok (.invokevirtual 77, 3) := dk_182 0 77 (dk_at dksX11_readEnd_7 11 rfl rfl)
theorem dX11_readEnd_181 : decode cX11_readEnd 181 = .ok (.goto 26, 3) := dk_167 0 26 (dk_at dksX11_readEnd_7 14 rfl rfl)
theorem dX11_readEnd_184 : decode cX11_readEnd 184 = .ok (.aload_n 0, 1) := dk_42 (dk_at dksX11_readEnd_7 17 rfl rfl)
theorem dX11_readEnd_185 : decode cX11_readEnd 185 = .ok (.getfield 175, 3) := dk_180 0 175 (dk_at dksX11_readEnd_7 18 rfl rfl)
theorem dX11_readEnd_188 : decode cX11_readEnd 188 = .ok (.bipush 10, 2) := dk_16 10 (dk_at dksX11_readEnd_7 21 rfl rfl)
theorem dX11_readEnd_190 : decode cX11_readEnd 190 = .ok (.if_icmp .ne 17, 3) := dk_160 0 17 (dk_at dksX11_readEnd_8 0 rfl rfl)
theorem dX11_readEnd_193 : decode cX11_readEnd 193 = .ok (.aload_n 0, 1) := dk_42 (dk_at dksX11_readEnd_8 3 rfl rfl)
theorem dX11_readEnd_194 : decode cX11_readEnd 194 = .ok (.aload_n 0, 1) := dk_42 (dk_at dksX11_readEnd_8 4 rfl rfl)
theorem dX11_readEnd_195 : decode cX11_readEnd 195 = .ok (.getfield 14, 3) := dk_180 0 14 (dk_at dksX11_readEnd_8 5 rfl rfl)
theorem dX11_readEnd_198 : decode cX11_readEnd 198 = .ok (.iconst 1, 1) := dk_4 (dk_at dksX11_readEnd_8 8 rfl rfl)
theorem dX11_readEnd_199 : decode cX11_readEnd 199 = .ok (.ldc 153, 2) := dk_18 153 (dk_at dksX11_readEnd_8 9 rfl rfl)
theorem dX11_readEnd_201 : decode cX11_readEnd 201 = .ok (.invokevirtual 111, 3) := dk_182 0 111 (dk_at dksX11_readEnd_8 11 rfl rfl)
theorem dX11_readEnd_204 : decode cX11_readEnd 204 = .ok (.putfield 181, 3) := dk_181 0 181 (dk_at dksX11_readEnd_8 14 rfl rfl)
theorem dX11_readEnd_207 : decode cX11_readEnd 207 = .ok (.return_, 1) := dk_177 (dk_at dksX11_readEnd_8 17 rfl rfl)
abbrev cX11_endOf : ByteArray := prog_29_method_7_code
def yX11_endOf : MethodName := ⟨RX11, "endOf", "()I"⟩
def dkwX11_endOf_7 : List UInt8 := [16, 9, 167, 0, 21, 42, 180, 0, 14, 18, 170, 182, 0, 64, 153, 0, 8, 16, 10, 167, 0, 4, 2, 172]
abbrev dktX11_endOf_7 : List UInt8 := dkwX11_endOf_7 ++ []
def dkwX11_endOf_6 : List UInt8 := [182, 0, 64, 153, 0, 8, 16, 8, 167, 0, 38, 42, 180, 0, 14, 18, 100, 182, 0, 64, 153, 0, 8]
abbrev dktX11_endOf_6 : List UInt8 := dkwX11_endOf_6 ++ dktX11_endOf_7
def dkwX11_endOf_5 : List UInt8 := [180, 0, 14, 18, 166, 182, 0, 64, 153, 0, 8, 16, 7, 167, 0, 55, 42, 180, 0, 14, 18, 168]
abbrev dktX11_endOf_5 : List UInt8 := dkwX11_endOf_5 ++ dktX11_endOf_6
def dkwX11_endOf_4 : List UInt8 := [8, 167, 0, 89, 42, 180, 0, 14, 18, 164, 182, 0, 64, 153, 0, 8, 16, 6, 167, 0, 72, 42]
abbrev dktX11_endOf_4 : List UInt8 := dkwX11_endOf_4 ++ dktX11_endOf_5
def dkwX11_endOf_3 : List UInt8 := [18, 161, 182, 0, 64, 153, 0, 7, 7, 167, 0, 105, 42, 180, 0, 14, 18, 163, 182, 0, 64, 153, 0, 7]
abbrev dktX11_endOf_3 : List UInt8 := dkwX11_endOf_3 ++ dktX11_endOf_4
def dkwX11_endOf_2 : List UInt8 := [167, 0, 137, 42, 180, 0, 14, 18, 159, 182, 0, 64, 153, 0, 7, 6, 167, 0, 121, 42, 180, 0, 14]
abbrev dktX11_endOf_2 : List UInt8 := dkwX11_endOf_2 ++ dktX11_endOf_3
def dkwX11_endOf_1 : List UInt8 := [182, 0, 64, 153, 0, 7, 4, 167, 0, 153, 42, 180, 0, 14, 18, 157, 182, 0, 64, 153, 0, 7, 5]
abbrev dktX11_endOf_1 : List UInt8 := dkwX11_endOf_1 ++ dktX11_endOf_2
def dkwX11_endOf_0 : List UInt8 := [42, 180, 0, 14, 18, 154, 182, 0, 64, 153, 0, 7, 3, 167, 0, 169, 42, 180, 0, 14, 18, 155]
abbrev dktX11_endOf_0 : List UInt8 := dkwX11_endOf_0 ++ dktX11_endOf_1
theorem dksX11_endOf_0 : cX11_endOf.data.toList.drop 0 = dktX11_endOf_0 := by decide +kernel
theorem dksX11_endOf_1 : cX11_endOf.data.toList.drop 22 = dktX11_endOf_1 := dk_seg dksX11_endOf_0 22 rfl rfl
theorem dksX11_endOf_2 : cX11_endOf.data.toList.drop 45 = dktX11_endOf_2 := dk_seg dksX11_endOf_1 23 rfl rfl
theorem dksX11_endOf_3 : cX11_endOf.data.toList.drop 68 = dktX11_endOf_3 := dk_seg dksX11_endOf_2 23 rfl rfl
theorem dksX11_endOf_4 : cX11_endOf.data.toList.drop 92 = dktX11_endOf_4 := dk_seg dksX11_endOf_3 24 rfl rfl
theorem dksX11_endOf_5 : cX11_endOf.data.toList.drop 114 = dktX11_endOf_5 := dk_seg dksX11_endOf_4 22 rfl rfl
theorem dksX11_endOf_6 : cX11_endOf.data.toList.drop 136 = dktX11_endOf_6 := dk_seg dksX11_endOf_5 22 rfl rfl
theorem dksX11_endOf_7 : cX11_endOf.data.toList.drop 159 = dktX11_endOf_7 := dk_seg dksX11_endOf_6 23 rfl rfl
theorem dX11_endOf_0 : decode cX11_endOf 0 = .ok (.aload_n 0, 1) := dk_42 (dk_at dksX11_endOf_0 0 rfl rfl)
theorem dX11_endOf_1 : decode cX11_endOf 1 = .ok (.getfield 14, 3) := dk_180 0 14 (dk_at dksX11_endOf_0 1 rfl rfl)
theorem dX11_endOf_4 : decode cX11_endOf 4 = .ok (.ldc 154, 2) := dk_18 154 (dk_at dksX11_endOf_0 4 rfl rfl)
theorem dX11_endOf_6 : decode cX11_endOf 6 = .ok (.invokevirtual 64, 3) := dk_182 0 64 (dk_at dksX11_endOf_0 6 rfl rfl)
theorem dX11_endOf_9 : decode cX11_endOf 9 = .ok (.ifCond .eq 7, 3) := dk_153 0 7 (dk_at dksX11_endOf_0 9 rfl rfl)
theorem dX11_endOf_12 : decode cX11_endOf 12 = .ok (.iconst 0, 1) := dk_3 (dk_at dksX11_endOf_0 12 rfl rfl)
theorem dX11_endOf_13 : decode cX11_endOf 13 = .ok (.goto 169, 3) := dk_167 0 169 (dk_at dksX11_endOf_0 13 rfl rfl)
theorem dX11_endOf_16 : decode cX11_endOf 16 = .ok (.aload_n 0, 1) := dk_42 (dk_at dksX11_endOf_0 16 rfl rfl)
theorem dX11_endOf_17 : decode cX11_endOf 17 = .ok (.getfield 14, 3) := dk_180 0 14 (dk_at dksX11_endOf_0 17 rfl rfl)
theorem dX11_endOf_20 : decode cX11_endOf 20 = .ok (.ldc 155, 2) := dk_18 155 (dk_at dksX11_endOf_0 20 rfl rfl)
theorem dX11_endOf_22 : decode cX11_endOf 22 = .ok (.invokevirtual 64, 3) := dk_182 0 64 (dk_at dksX11_endOf_1 0 rfl rfl)
theorem dX11_endOf_25 : decode cX11_endOf 25 = .ok (.ifCond .eq 7, 3) := dk_153 0 7 (dk_at dksX11_endOf_1 3 rfl rfl)
theorem dX11_endOf_28 : decode cX11_endOf 28 = .ok (.iconst 1, 1) := dk_4 (dk_at dksX11_endOf_1 6 rfl rfl)
theorem dX11_endOf_29 : decode cX11_endOf 29 = .ok (.goto 153, 3) := dk_167 0 153 (dk_at dksX11_endOf_1 7 rfl rfl)
theorem dX11_endOf_32 : decode cX11_endOf 32 = .ok (.aload_n 0, 1) := dk_42 (dk_at dksX11_endOf_1 10 rfl rfl)
theorem dX11_endOf_33 : decode cX11_endOf 33 = .ok (.getfield 14, 3) := dk_180 0 14 (dk_at dksX11_endOf_1 11 rfl rfl)
theorem dX11_endOf_36 : decode cX11_endOf 36 = .ok (.ldc 157, 2) := dk_18 157 (dk_at dksX11_endOf_1 14 rfl rfl)
theorem dX11_endOf_38 : decode cX11_endOf 38 = .ok (.invokevirtual 64, 3) := dk_182 0 64 (dk_at dksX11_endOf_1 16 rfl rfl)
theorem dX11_endOf_41 : decode cX11_endOf 41 = .ok (.ifCond .eq 7, 3) := dk_153 0 7 (dk_at dksX11_endOf_1 19 rfl rfl)
theorem dX11_endOf_44 : decode cX11_endOf 44 = .ok (.iconst 2, 1) := dk_5 (dk_at dksX11_endOf_1 22 rfl rfl)
theorem dX11_endOf_45 : decode cX11_endOf 45 = .ok (.goto 137, 3) := dk_167 0 137 (dk_at dksX11_endOf_2 0 rfl rfl)
theorem dX11_endOf_48 : decode cX11_endOf 48 = .ok (.aload_n 0, 1) := dk_42 (dk_at dksX11_endOf_2 3 rfl rfl)
theorem dX11_endOf_49 : decode cX11_endOf 49 = .ok (.getfield 14, 3) := dk_180 0 14 (dk_at dksX11_endOf_2 4 rfl rfl)
theorem dX11_endOf_52 : decode cX11_endOf 52 = .ok (.ldc 159, 2) := dk_18 159 (dk_at dksX11_endOf_2 7 rfl rfl)
theorem dX11_endOf_54 : decode cX11_endOf 54 = .ok (.invokevirtual 64, 3) := dk_182 0 64 (dk_at dksX11_endOf_2 9 rfl rfl)
theorem dX11_endOf_57 : decode cX11_endOf 57 = .ok (.ifCond .eq 7, 3) := dk_153 0 7 (dk_at dksX11_endOf_2 12 rfl rfl)
theorem dX11_endOf_60 : decode cX11_endOf 60 = .ok (.iconst 3, 1) := dk_6 (dk_at dksX11_endOf_2 15 rfl rfl)
theorem dX11_endOf_61 : decode cX11_endOf 61 = .ok (.goto 121, 3) := dk_167 0 121 (dk_at dksX11_endOf_2 16 rfl rfl)
theorem dX11_endOf_64 : decode cX11_endOf 64 = .ok (.aload_n 0, 1) := dk_42 (dk_at dksX11_endOf_2 19 rfl rfl)
theorem dX11_endOf_65 : decode cX11_endOf 65 = .ok (.getfield 14, 3) := dk_180 0 14 (dk_at dksX11_endOf_2 20 rfl rfl)
theorem dX11_endOf_68 : decode cX11_endOf 68 = .ok (.ldc 161, 2) := dk_18 161 (dk_at dksX11_endOf_3 0 rfl rfl)
theorem dX11_endOf_70 : decode cX11_endOf 70 = .ok (.invokevirtual 64, 3) := dk_182 0 64 (dk_at dksX11_endOf_3 2 rfl rfl)
theorem dX11_endOf_73 : decode cX11_endOf 73 = .ok (.ifCond .eq 7, 3) := dk_153 0 7 (dk_at dksX11_endOf_3 5 rfl rfl)
theorem dX11_endOf_76 : decode cX11_endOf 76 = .ok (.iconst 4, 1) := dk_7 (dk_at dksX11_endOf_3 8 rfl rfl)
theorem dX11_endOf_77 : decode cX11_endOf 77 = .ok (.goto 105, 3) := dk_167 0 105 (dk_at dksX11_endOf_3 9 rfl rfl)
theorem dX11_endOf_80 : decode cX11_endOf 80 = .ok (.aload_n 0, 1) := dk_42 (dk_at dksX11_endOf_3 12 rfl rfl)
theorem dX11_endOf_81 : decode cX11_endOf 81 = .ok (.getfield 14, 3) := dk_180 0 14 (dk_at dksX11_endOf_3 13 rfl rfl)
theorem dX11_endOf_84 : decode cX11_endOf 84 = .ok (.ldc 163, 2) := dk_18 163 (dk_at dksX11_endOf_3 16 rfl rfl)
theorem dX11_endOf_86 : decode cX11_endOf 86 = .ok (.invokevirtual 64, 3) := dk_182 0 64 (dk_at dksX11_endOf_3 18 rfl rfl)
theorem dX11_endOf_89 : decode cX11_endOf 89 = .ok (.ifCond .eq 7, 3) := dk_153 0 7 (dk_at dksX11_endOf_3 21 rfl rfl)
theorem dX11_endOf_92 : decode cX11_endOf 92 = .ok (.iconst 5, 1) := dk_8 (dk_at dksX11_endOf_4 0 rfl rfl)
theorem dX11_endOf_93 : decode cX11_endOf 93 = .ok (.goto 89, 3) := dk_167 0 89 (dk_at dksX11_endOf_4 1 rfl rfl)
theorem dX11_endOf_96 : decode cX11_endOf 96 = .ok (.aload_n 0, 1) := dk_42 (dk_at dksX11_endOf_4 4 rfl rfl)
theorem dX11_endOf_97 : decode cX11_endOf 97 = .ok (.getfield 14, 3) := dk_180 0 14 (dk_at dksX11_endOf_4 5 rfl rfl)
theorem dX11_endOf_100 : decode cX11_endOf 100 = .ok (.ldc 164, 2) := dk_18 164 (dk_at dksX11_endOf_4 8 rfl rfl)
theorem dX11_endOf_102 : decode cX11_endOf 102 = .ok (.invokevirtual 64, 3) := dk_182 0 64 (dk_at dksX11_endOf_4 10 rfl rfl)
theorem dX11_endOf_105 : decode cX11_endOf 105 = .ok (.ifCond .eq 8, 3) := dk_153 0 8 (dk_at dksX11_endOf_4 13 rfl rfl)
theorem dX11_endOf_108 : decode cX11_endOf 108 = .ok (.bipush 6, 2) := dk_16 6 (dk_at dksX11_endOf_4 16 rfl rfl)
theorem dX11_endOf_110 : decode cX11_endOf 110 = .ok (.goto 72, 3) := dk_167 0 72 (dk_at dksX11_endOf_4 18 rfl rfl)
theorem dX11_endOf_113 : decode cX11_endOf 113 = .ok (.aload_n 0, 1) := dk_42 (dk_at dksX11_endOf_4 21 rfl rfl)
theorem dX11_endOf_114 : decode cX11_endOf 114 = .ok (.getfield 14, 3) := dk_180 0 14 (dk_at dksX11_endOf_5 0 rfl rfl)
theorem dX11_endOf_117 : decode cX11_endOf 117 = .ok (.ldc 166, 2) := dk_18 166 (dk_at dksX11_endOf_5 3 rfl rfl)
theorem dX11_endOf_119 : decode cX11_endOf 119 = .ok (.invokevirtual 64, 3) := dk_182 0 64 (dk_at dksX11_endOf_5 5 rfl rfl)
theorem dX11_endOf_122 : decode cX11_endOf 122 = .ok (.ifCond .eq 8, 3) := dk_153 0 8 (dk_at dksX11_endOf_5 8 rfl rfl)
theorem dX11_endOf_125 : decode cX11_endOf 125 = .ok (.bipush 7, 2) := dk_16 7 (dk_at dksX11_endOf_5 11 rfl rfl)
theorem dX11_endOf_127 : decode cX11_endOf 127 = .ok (.goto 55, 3) := dk_167 0 55 (dk_at dksX11_endOf_5 13 rfl rfl)
theorem dX11_endOf_130 : decode cX11_endOf 130 = .ok (.aload_n 0, 1) := dk_42 (dk_at dksX11_endOf_5 16 rfl rfl)
theorem dX11_endOf_131 : decode cX11_endOf 131 = .ok (.getfield 14, 3) := dk_180 0 14 (dk_at dksX11_endOf_5 17 rfl rfl)
theorem dX11_endOf_134 : decode cX11_endOf 134 = .ok (.ldc 168, 2) := dk_18 168 (dk_at dksX11_endOf_5 20 rfl rfl)
theorem dX11_endOf_136 : decode cX11_endOf 136 = .ok (.invokevirtual 64, 3) := dk_182 0 64 (dk_at dksX11_endOf_6 0 rfl rfl)
theorem dX11_endOf_139 : decode cX11_endOf 139 = .ok (.ifCond .eq 8, 3) := dk_153 0 8 (dk_at dksX11_endOf_6 3 rfl rfl)
theorem dX11_endOf_142 : decode cX11_endOf 142 = .ok (.bipush 8, 2) := dk_16 8 (dk_at dksX11_endOf_6 6 rfl rfl)
theorem dX11_endOf_144 : decode cX11_endOf 144 = .ok (.goto 38, 3) := dk_167 0 38 (dk_at dksX11_endOf_6 8 rfl rfl)
theorem dX11_endOf_147 : decode cX11_endOf 147 = .ok (.aload_n 0, 1) := dk_42 (dk_at dksX11_endOf_6 11 rfl rfl)
theorem dX11_endOf_148 : decode cX11_endOf 148 = .ok (.getfield 14, 3) := dk_180 0 14 (dk_at dksX11_endOf_6 12 rfl rfl)
theorem dX11_endOf_151 : decode cX11_endOf 151 = .ok (.ldc 100, 2) := dk_18 100 (dk_at dksX11_endOf_6 15 rfl rfl)
theorem dX11_endOf_153 : decode cX11_endOf 153 = .ok (.invokevirtual 64, 3) := dk_182 0 64 (dk_at dksX11_endOf_6 17 rfl rfl)
theorem dX11_endOf_156 : decode cX11_endOf 156 = .ok (.ifCond .eq 8, 3) := dk_153 0 8 (dk_at dksX11_endOf_6 20 rfl rfl)
theorem dX11_endOf_159 : decode cX11_endOf 159 = .ok (.bipush 9, 2) := dk_16 9 (dk_at dksX11_endOf_7 0 rfl rfl)
theorem dX11_endOf_161 : decode cX11_endOf 161 = .ok (.goto 21, 3) := dk_167 0 21 (dk_at dksX11_endOf_7 2 rfl rfl)
theorem dX11_endOf_164 : decode cX11_endOf 164 = .ok (.aload_n 0, 1) := dk_42 (dk_at dksX11_endOf_7 5 rfl rfl)
theorem dX11_endOf_165 : decode cX11_endOf 165 = .ok (.getfield 14, 3) := dk_180 0 14 (dk_at dksX11_endOf_7 6 rfl rfl)
theorem dX11_endOf_168 : decode cX11_endOf 168 = .ok (.ldc 170, 2) := dk_18 170 (dk_at dksX11_endOf_7 9 rfl rfl)
theorem dX11_endOf_170 : decode cX11_endOf 170 = .ok (.invokevirtual 64, 3) := dk_182 0 64 (dk_at dksX11_endOf_7 11 rfl rfl)
theorem dX11_endOf_173 : decode cX11_endOf 173 = .ok (.ifCond .eq 8, 3) := dk_153 0 8 (dk_at dksX11_endOf_7 14 rfl rfl)
theorem dX11_endOf_176 : decode cX11_endOf 176 = .ok (.bipush 10, 2) := dk_16 10 (dk_at dksX11_endOf_7 17 rfl rfl)
theorem dX11_endOf_178 : decode cX11_endOf 178 = .ok (.goto 4, 3) := dk_167 0 4 (dk_at dksX11_endOf_7 19 rfl rfl)
theorem dX11_endOf_181 : decode cX11_endOf 181 = .ok (.iconst (-1), 1) := dk_2 (dk_at dksX11_endOf_7 22 rfl rfl)
theorem dX11_endOf_182 : decode cX11_endOf 182 = .ok (.ireturn, 1) := dk_172 (dk_at dksX11_endOf_7 23 rfl rfl)
abbrev cX11_begin : ByteArray := prog_29_method_10_code
def yX11_begin : MethodName := ⟨RX11, "begin", "()V"⟩
def dkwX11_begin_3 : List UInt8 := [132, 1, 1, 167, 255, 231, 177]
abbrev dktX11_begin_3 : List UInt8 := dkwX11_begin_3 ++ []
def dkwX11_begin_2 : List UInt8 := [27, 42, 180, 0, 147, 162, 0, 23, 42, 180, 0, 30, 27, 3, 79, 42, 180, 0, 33, 27, 3, 84]
abbrev dktX11_begin_2 : List UInt8 := dkwX11_begin_2 ++ dktX11_begin_3
def dkwX11_begin_1 : List UInt8 := [42, 180, 0, 108, 6, 160, 0, 13, 42, 180, 0, 222, 182, 0, 225, 167, 0, 4, 3, 181, 0, 229, 3, 60]
abbrev dktX11_begin_1 : List UInt8 := dkwX11_begin_1 ++ dktX11_begin_2
def dkwX11_begin_0 : List UInt8 := [42, 3, 181, 0, 213, 42, 3, 181, 0, 216, 42, 3, 181, 0, 219, 42, 42, 180, 0, 108, 5, 159, 0, 11]
abbrev dktX11_begin_0 : List UInt8 := dkwX11_begin_0 ++ dktX11_begin_1
theorem dksX11_begin_0 : cX11_begin.data.toList.drop 0 = dktX11_begin_0 := by decide +kernel
theorem dksX11_begin_1 : cX11_begin.data.toList.drop 24 = dktX11_begin_1 := dk_seg dksX11_begin_0 24 rfl rfl
theorem dksX11_begin_2 : cX11_begin.data.toList.drop 48 = dktX11_begin_2 := dk_seg dksX11_begin_1 24 rfl rfl
theorem dksX11_begin_3 : cX11_begin.data.toList.drop 70 = dktX11_begin_3 := dk_seg dksX11_begin_2 22 rfl rfl
theorem dX11_begin_0 : decode cX11_begin 0 = .ok (.aload_n 0, 1) := dk_42 (dk_at dksX11_begin_0 0 rfl rfl)
theorem dX11_begin_1 : decode cX11_begin 1 = .ok (.iconst 0, 1) := dk_3 (dk_at dksX11_begin_0 1 rfl rfl)
theorem dX11_begin_2 : decode cX11_begin 2 = .ok (.putfield 213, 3) := dk_181 0 213 (dk_at dksX11_begin_0 2 rfl rfl)
theorem dX11_begin_5 : decode cX11_begin 5 = .ok (.aload_n 0, 1) := dk_42 (dk_at dksX11_begin_0 5 rfl rfl)
theorem dX11_begin_6 : decode cX11_begin 6 = .ok (.iconst 0, 1) := dk_3 (dk_at dksX11_begin_0 6 rfl rfl)
theorem dX11_begin_7 : decode cX11_begin 7 = .ok (.putfield 216, 3) := dk_181 0 216 (dk_at dksX11_begin_0 7 rfl rfl)
theorem dX11_begin_10 : decode cX11_begin 10 = .ok (.aload_n 0, 1) := dk_42 (dk_at dksX11_begin_0 10 rfl rfl)
theorem dX11_begin_11 : decode cX11_begin 11 = .ok (.iconst 0, 1) := dk_3 (dk_at dksX11_begin_0 11 rfl rfl)
theorem dX11_begin_12 : decode cX11_begin 12 = .ok (.putfield 219, 3) := dk_181 0 219 (dk_at dksX11_begin_0 12 rfl rfl)
theorem dX11_begin_15 : decode cX11_begin 15 = .ok (.aload_n 0, 1) := dk_42 (dk_at dksX11_begin_0 15 rfl rfl)
theorem dX11_begin_16 : decode cX11_begin 16 = .ok (.aload_n 0, 1) := dk_42 (dk_at dksX11_begin_0 16 rfl rfl)
theorem dX11_begin_17 : decode cX11_begin 17 = .ok (.getfield 108, 3) := dk_180 0 108 (dk_at dksX11_begin_0 17 rfl rfl)
theorem dX11_begin_20 : decode cX11_begin 20 = .ok (.iconst 2, 1) := dk_5 (dk_at dksX11_begin_0 20 rfl rfl)
theorem dX11_begin_21 : decode cX11_begin 21 = .ok (.if_icmp .eq 11, 3) := dk_159 0 11 (dk_at dksX11_begin_0 21 rfl rfl)
theorem dX11_begin_24 : decode cX11_begin 24 = .ok (.aload_n 0, 1) := dk_42 (dk_at dksX11_begin_1 0 rfl rfl)
theorem dX11_begin_25 : decode cX11_begin 25 = .ok (.getfield 108, 3) := dk_180 0 108 (dk_at dksX11_begin_1 1 rfl rfl)
theorem dX11_begin_28 : decode cX11_begin 28 = .ok (.iconst 3, 1) := dk_6 (dk_at dksX11_begin_1 4 rfl rfl)
theorem dX11_begin_29 : decode cX11_begin 29 = .ok (.if_icmp .ne 13, 3) := dk_160 0 13 (dk_at dksX11_begin_1 5 rfl rfl)
theorem dX11_begin_32 : decode cX11_begin 32 = .ok (.aload_n 0, 1) := dk_42 (dk_at dksX11_begin_1 8 rfl rfl)
theorem dX11_begin_33 : decode cX11_begin 33 = .ok (.getfield 222, 3) := dk_180 0 222 (dk_at dksX11_begin_1 9 rfl rfl)
theorem dX11_begin_36 : decode cX11_begin 36 = .ok (.invokevirtual 225, 3) := dk_182 0 225 (dk_at dksX11_begin_1 12 rfl rfl)
theorem dX11_begin_39 : decode cX11_begin 39 = .ok (.goto 4, 3) := dk_167 0 4 (dk_at dksX11_begin_1 15 rfl rfl)
theorem dX11_begin_42 : decode cX11_begin 42 = .ok (.iconst 0, 1) := dk_3 (dk_at dksX11_begin_1 18 rfl rfl)
theorem dX11_begin_43 : decode cX11_begin 43 = .ok (.putfield 229, 3) := dk_181 0 229 (dk_at dksX11_begin_1 19 rfl rfl)
theorem dX11_begin_46 : decode cX11_begin 46 = .ok (.iconst 0, 1) := dk_3 (dk_at dksX11_begin_1 22 rfl rfl)
theorem dX11_begin_47 : decode cX11_begin 47 = .ok (.istore_n 1, 1) := dk_60 (dk_at dksX11_begin_1 23 rfl rfl)
theorem dX11_begin_48 : decode cX11_begin 48 = .ok (.iload_n 1, 1) := dk_27 (dk_at dksX11_begin_2 0 rfl rfl)
theorem dX11_begin_49 : decode cX11_begin 49 = .ok (.aload_n 0, 1) := dk_42 (dk_at dksX11_begin_2 1 rfl rfl)
theorem dX11_begin_50 : decode cX11_begin 50 = .ok (.getfield 147, 3) := dk_180 0 147 (dk_at dksX11_begin_2 2 rfl rfl)
theorem dX11_begin_53 : decode cX11_begin 53 = .ok (.if_icmp .ge 23, 3) := dk_162 0 23 (dk_at dksX11_begin_2 5 rfl rfl)
theorem dX11_begin_56 : decode cX11_begin 56 = .ok (.aload_n 0, 1) := dk_42 (dk_at dksX11_begin_2 8 rfl rfl)
theorem dX11_begin_57 : decode cX11_begin 57 = .ok (.getfield 30, 3) := dk_180 0 30 (dk_at dksX11_begin_2 9 rfl rfl)
theorem dX11_begin_60 : decode cX11_begin 60 = .ok (.iload_n 1, 1) := dk_27 (dk_at dksX11_begin_2 12 rfl rfl)
theorem dX11_begin_61 : decode cX11_begin 61 = .ok (.iconst 0, 1) := dk_3 (dk_at dksX11_begin_2 13 rfl rfl)
theorem dX11_begin_62 : decode cX11_begin 62 = .ok (.iastore, 1) := dk_79 (dk_at dksX11_begin_2 14 rfl rfl)
theorem dX11_begin_63 : decode cX11_begin 63 = .ok (.aload_n 0, 1) := dk_42 (dk_at dksX11_begin_2 15 rfl rfl)
theorem dX11_begin_64 : decode cX11_begin 64 = .ok (.getfield 33, 3) := dk_180 0 33 (dk_at dksX11_begin_2 16 rfl rfl)
theorem dX11_begin_67 : decode cX11_begin 67 = .ok (.iload_n 1, 1) := dk_27 (dk_at dksX11_begin_2 19 rfl rfl)
theorem dX11_begin_68 : decode cX11_begin 68 = .ok (.iconst 0, 1) := dk_3 (dk_at dksX11_begin_2 20 rfl rfl)
theorem dX11_begin_69 : decode cX11_begin 69 = .ok (.bastore, 1) := dk_84 (dk_at dksX11_begin_2 21 rfl rfl)
theorem dX11_begin_70 : decode cX11_begin 70 = .ok (.iinc 1 1, 3) := dk_132 1 1 (dk_at dksX11_begin_3 0 rfl rfl)
theorem dX11_begin_73 : decode cX11_begin 73 = .ok (.goto (-25), 3) := dk_167 255 231 (dk_at dksX11_begin_3 3 rfl rfl)
theorem dX11_begin_76 : decode cX11_begin 76 = .ok (.return_, 1) := dk_177 (dk_at dksX11_begin_3 6 rfl rfl)
abbrev cX11_fill : ByteArray := prog_29_method_26_code
def yX11_fill : MethodName := ⟨RX11, "fill", "([I)I"⟩
def dkwX11_fill_1 : List UInt8 := [43, 28, 42, 180, 0, 246, 79, 132, 2, 1, 167, 255, 224, 28, 172]
abbrev dktX11_fill_1 : List UInt8 := dkwX11_fill_1 ++ []
def dkwX11_fill_0 : List UInt8 := [3, 61, 42, 182, 1, 63, 153, 0, 31, 28, 17, 7, 208, 162, 0, 7, 4, 167, 0, 4, 3, 184, 0, 232]
abbrev dktX11_fill_0 : List UInt8 := dkwX11_fill_0 ++ dktX11_fill_1
theorem dksX11_fill_0 : cX11_fill.data.toList.drop 0 = dktX11_fill_0 := by decide +kernel
theorem dksX11_fill_1 : cX11_fill.data.toList.drop 24 = dktX11_fill_1 := dk_seg dksX11_fill_0 24 rfl rfl
theorem dX11_fill_0 : decode cX11_fill 0 = .ok (.iconst 0, 1) := dk_3 (dk_at dksX11_fill_0 0 rfl rfl)
theorem dX11_fill_1 : decode cX11_fill 1 = .ok (.istore_n 2, 1) := dk_61 (dk_at dksX11_fill_0 1 rfl rfl)
theorem dX11_fill_2 : decode cX11_fill 2 = .ok (.aload_n 0, 1) := dk_42 (dk_at dksX11_fill_0 2 rfl rfl)
theorem dX11_fill_3 : decode cX11_fill 3 = .ok (.invokevirtual 319, 3) := dk_182 1 63 (dk_at dksX11_fill_0 3 rfl rfl)
theorem dX11_fill_6 : decode cX11_fill 6 = .ok (.ifCond .eq 31, 3) := dk_153 0 31 (dk_at dksX11_fill_0 6 rfl rfl)
theorem dX11_fill_9 : decode cX11_fill 9 = .ok (.iload_n 2, 1) := dk_28 (dk_at dksX11_fill_0 9 rfl rfl)
theorem dX11_fill_10 : decode cX11_fill 10 = .ok (.sipush 2000, 3) := dk_17 7 208 (dk_at dksX11_fill_0 10 rfl rfl)
theorem dX11_fill_13 : decode cX11_fill 13 = .ok (.if_icmp .ge 7, 3) := dk_162 0 7 (dk_at dksX11_fill_0 13 rfl rfl)
theorem dX11_fill_16 : decode cX11_fill 16 = .ok (.iconst 1, 1) := dk_4 (dk_at dksX11_fill_0 16 rfl rfl)
theorem dX11_fill_17 : decode cX11_fill 17 = .ok (.goto 4, 3) := dk_167 0 4 (dk_at dksX11_fill_0 17 rfl rfl)
theorem dX11_fill_20 : decode cX11_fill 20 = .ok (.iconst 0, 1) := dk_3 (dk_at dksX11_fill_0 20 rfl rfl)
theorem dX11_fill_21 : decode cX11_fill 21 = .ok (.invokestatic 232, 3) := dk_184 0 232 (dk_at dksX11_fill_0 21 rfl rfl)
theorem dX11_fill_24 : decode cX11_fill 24 = .ok (.aload_n 1, 1) := dk_43 (dk_at dksX11_fill_1 0 rfl rfl)
theorem dX11_fill_25 : decode cX11_fill 25 = .ok (.iload_n 2, 1) := dk_28 (dk_at dksX11_fill_1 1 rfl rfl)
theorem dX11_fill_26 : decode cX11_fill 26 = .ok (.aload_n 0, 1) := dk_42 (dk_at dksX11_fill_1 2 rfl rfl)
theorem dX11_fill_27 : decode cX11_fill 27 = .ok (.getfield 246, 3) := dk_180 0 246 (dk_at dksX11_fill_1 3 rfl rfl)
theorem dX11_fill_30 : decode cX11_fill 30 = .ok (.iastore, 1) := dk_79 (dk_at dksX11_fill_1 6 rfl rfl)
theorem dX11_fill_31 : decode cX11_fill 31 = .ok (.iinc 2 1, 3) := dk_132 2 1 (dk_at dksX11_fill_1 7 rfl rfl)
theorem dX11_fill_34 : decode cX11_fill 34 = .ok (.goto (-32), 3) := dk_167 255 224 (dk_at dksX11_fill_1 10 rfl rfl)
theorem dX11_fill_37 : decode cX11_fill 37 = .ok (.iload_n 2, 1) := dk_28 (dk_at dksX11_fill_1 13 rfl rfl)
theorem dX11_fill_38 : decode cX11_fill 38 = .ok (.ireturn, 1) := dk_172 (dk_at dksX11_fill_1 14 rfl rfl)
abbrev cX11_more : ByteArray := prog_29_method_24_code
def yX11_more : MethodName := ⟨RX11, "more", "()Z"⟩
def dkwX11_more_0 : List UInt8 := [42, 42, 180, 0, 147, 4, 100, 182, 1, 20, 172]
abbrev dktX11_more_0 : List UInt8 := dkwX11_more_0 ++ []
theorem dksX11_more_0 : cX11_more.data.toList.drop 0 = dktX11_more_0 := by decide +kernel
theorem dX11_more_0 : decode cX11_more 0 = .ok (.aload_n 0, 1) := dk_42 (dk_at dksX11_more_0 0 rfl rfl)
theorem dX11_more_1 : decode cX11_more 1 = .ok (.aload_n 0, 1) := dk_42 (dk_at dksX11_more_0 1 rfl rfl)
theorem dX11_more_2 : decode cX11_more 2 = .ok (.getfield 147, 3) := dk_180 0 147 (dk_at dksX11_more_0 2 rfl rfl)
theorem dX11_more_5 : decode cX11_more 5 = .ok (.iconst 1, 1) := dk_4 (dk_at dksX11_more_0 5 rfl rfl)
theorem dX11_more_6 : decode cX11_more 6 = .ok (.isub, 1) := dk_100 (dk_at dksX11_more_0 6 rfl rfl)
theorem dX11_more_7 : decode cX11_more 7 = .ok (.invokevirtual 276, 3) := dk_182 1 20 (dk_at dksX11_more_0 7 rfl rfl)
theorem dX11_more_10 : decode cX11_more 10 = .ok (.ireturn, 1) := dk_172 (dk_at dksX11_more_0 10 rfl rfl)
abbrev cX11_pull : ByteArray := prog_29_method_15_code
def yX11_pull : MethodName := ⟨RX11, "pull", "(I)Z"⟩
def dkwX11_pull_2 : List UInt8 := [96, 181, 0, 219, 4, 172]
abbrev dktX11_pull_2 : List UInt8 := dkwX11_pull_2 ++ []
def dkwX11_pull_1 : List UInt8 := [42, 180, 0, 219, 19, 1, 19, 162, 0, 7, 4, 167, 0, 4, 3, 184, 0, 232, 42, 89, 180, 0, 219, 4]
abbrev dktX11_pull_1 : List UInt8 := dkwX11_pull_1 ++ dktX11_pull_2
def dkwX11_pull_0 : List UInt8 := [27, 156, 0, 13, 42, 182, 1, 12, 153, 0, 14, 167, 0, 13, 42, 27, 182, 1, 15, 154, 0, 5, 3, 172]
abbrev dktX11_pull_0 : List UInt8 := dkwX11_pull_0 ++ dktX11_pull_1
theorem dksX11_pull_0 : cX11_pull.data.toList.drop 0 = dktX11_pull_0 := by decide +kernel
theorem dksX11_pull_1 : cX11_pull.data.toList.drop 24 = dktX11_pull_1 := dk_seg dksX11_pull_0 24 rfl rfl
theorem dksX11_pull_2 : cX11_pull.data.toList.drop 48 = dktX11_pull_2 := dk_seg dksX11_pull_1 24 rfl rfl
theorem dX11_pull_0 : decode cX11_pull 0 = .ok (.iload_n 1, 1) := dk_27 (dk_at dksX11_pull_0 0 rfl rfl)
theorem dX11_pull_1 : decode cX11_pull 1 = .ok (.ifCond .ge 13, 3) := dk_156 0 13 (dk_at dksX11_pull_0 1 rfl rfl)
theorem dX11_pull_4 : decode cX11_pull 4 = .ok (.aload_n 0, 1) := dk_42 (dk_at dksX11_pull_0 4 rfl rfl)
theorem dX11_pull_5 : decode cX11_pull 5 = .ok (.invokevirtual 268, 3) := dk_182 1 12 (dk_at dksX11_pull_0 5 rfl rfl)
theorem dX11_pull_8 : decode cX11_pull 8 = .ok (.ifCond .eq 14, 3) := dk_153 0 14 (dk_at dksX11_pull_0 8 rfl rfl)
theorem dX11_pull_11 : decode cX11_pull 11 = .ok (.goto 13, 3) := dk_167 0 13 (dk_at dksX11_pull_0 11 rfl rfl)
theorem dX11_pull_14 : decode cX11_pull 14 = .ok (.aload_n 0, 1) := dk_42 (dk_at dksX11_pull_0 14 rfl rfl)
theorem dX11_pull_15 : decode cX11_pull 15 = .ok (.iload_n 1, 1) := dk_27 (dk_at dksX11_pull_0 15 rfl rfl)
theorem dX11_pull_16 : decode cX11_pull 16 = .ok (.invokevirtual 271, 3) := dk_182 1 15 (dk_at dksX11_pull_0 16 rfl rfl)
theorem dX11_pull_19 : decode cX11_pull 19 = .ok (.ifCond .ne 5, 3) := dk_154 0 5 (dk_at dksX11_pull_0 19 rfl rfl)
theorem dX11_pull_22 : decode cX11_pull 22 = .ok (.iconst 0, 1) := dk_3 (dk_at dksX11_pull_0 22 rfl rfl)
theorem dX11_pull_23 : decode cX11_pull 23 = .ok (.ireturn, 1) := dk_172 (dk_at dksX11_pull_0 23 rfl rfl)
theorem dX11_pull_24 : decode cX11_pull 24 = .ok (.aload_n 0, 1) := dk_42 (dk_at dksX11_pull_1 0 rfl rfl)
theorem dX11_pull_25 : decode cX11_pull 25 = .ok (.getfield 219, 3) := dk_180 0 219 (dk_at dksX11_pull_1 1 rfl rfl)
theorem dX11_pull_28 : decode cX11_pull 28 = .ok (.ldc_w 275, 3) := dk_19 1 19 (dk_at dksX11_pull_1 4 rfl rfl)
theorem dX11_pull_31 : decode cX11_pull 31 = .ok (.if_icmp .ge 7, 3) := dk_162 0 7 (dk_at dksX11_pull_1 7 rfl rfl)
theorem dX11_pull_34 : decode cX11_pull 34 = .ok (.iconst 1, 1) := dk_4 (dk_at dksX11_pull_1 10 rfl rfl)
theorem dX11_pull_35 : decode cX11_pull 35 = .ok (.goto 4, 3) := dk_167 0 4 (dk_at dksX11_pull_1 11 rfl rfl)
theorem dX11_pull_38 : decode cX11_pull 38 = .ok (.iconst 0, 1) := dk_3 (dk_at dksX11_pull_1 14 rfl rfl)
theorem dX11_pull_39 : decode cX11_pull 39 = .ok (.invokestatic 232, 3) := dk_184 0 232 (dk_at dksX11_pull_1 15 rfl rfl)
theorem dX11_pull_42 : decode cX11_pull 42 = .ok (.aload_n 0, 1) := dk_42 (dk_at dksX11_pull_1 18 rfl rfl)
theorem dX11_pull_43 : decode cX11_pull 43 = .ok (.dup, 1) := dk_89 (dk_at dksX11_pull_1 19 rfl rfl)
theorem dX11_pull_44 : decode cX11_pull 44 = .ok (.getfield 219, 3) := dk_180 0 219 (dk_at dksX11_pull_1 20 rfl rfl)
theorem dX11_pull_47 : decode cX11_pull 47 = .ok (.iconst 1, 1) := dk_4 (dk_at dksX11_pull_1 23 rfl rfl)
theorem dX11_pull_48 : decode cX11_pull 48 = .ok (.iadd, 1) := dk_96 (dk_at dksX11_pull_2 0 rfl rfl)
theorem dX11_pull_49 : decode cX11_pull 49 = .ok (.putfield 219, 3) := dk_181 0 219 (dk_at dksX11_pull_2 1 rfl rfl)
theorem dX11_pull_52 : decode cX11_pull 52 = .ok (.iconst 1, 1) := dk_4 (dk_at dksX11_pull_2 4 rfl rfl)
theorem dX11_pull_53 : decode cX11_pull 53 = .ok (.ireturn, 1) := dk_172 (dk_at dksX11_pull_2 5 rfl rfl)
abbrev cX11_pullSource : ByteArray := prog_29_method_14_code
def yX11_pullSource : MethodName := ⟨RX11, "pullSource", "()Z"⟩
def dkwX11_pullSource_9 : List UInt8 := [181, 0, 216, 4, 172]
abbrev dktX11_pullSource_9 : List UInt8 := dkwX11_pullSource_9 ++ []
def dkwX11_pullSource_8 : List UInt8 := [42, 42, 180, 0, 222, 42, 180, 0, 229, 182, 1, 10, 181, 0, 229, 42, 89, 180, 0, 216, 4, 96]
abbrev dktX11_pullSource_8 : List UInt8 := dkwX11_pullSource_8 ++ dktX11_pullSource_9
def dkwX11_pullSource_7 : List UInt8 := [42, 180, 0, 229, 182, 1, 4, 167, 0, 14, 42, 180, 0, 222, 42, 180, 0, 229, 182, 1, 7, 181, 0, 246]
abbrev dktX11_pullSource_7 : List UInt8 := dkwX11_pullSource_7 ++ dktX11_pullSource_8
def dkwX11_pullSource_6 : List UInt8 := [42, 42, 180, 0, 246, 181, 0, 253, 167, 0, 55, 42, 42, 180, 0, 108, 5, 160, 0, 17, 42, 180, 0, 222]
abbrev dktX11_pullSource_6 : List UInt8 := dkwX11_pullSource_6 ++ dktX11_pullSource_7
def dkwX11_pullSource_5 : List UInt8 := [180, 0, 123, 42, 180, 0, 126, 42, 180, 0, 253, 182, 1, 0, 167, 0, 7, 42, 180, 0, 114, 181, 0, 246]
abbrev dktX11_pullSource_5 : List UInt8 := dkwX11_pullSource_5 ++ dktX11_pullSource_6
def dkwX11_pullSource_4 : List UInt8 := [180, 0, 216, 182, 0, 249, 181, 0, 246, 167, 0, 100, 42, 42, 180, 0, 216, 158, 0, 22, 42, 42]
abbrev dktX11_pullSource_4 : List UInt8 := dkwX11_pullSource_4 ++ dktX11_pullSource_5
def dkwX11_pullSource_3 : List UInt8 := [42, 42, 180, 0, 114, 42, 180, 0, 216, 96, 181, 0, 246, 167, 0, 118, 42, 42, 180, 0, 235, 42]
abbrev dktX11_pullSource_3 : List UInt8 := dkwX11_pullSource_3 ++ dktX11_pullSource_4
def dkwX11_pullSource_2 : List UInt8 := [170, 0, 0, 0, 112, 0, 0, 0, 0, 0, 0, 0, 4, 0, 0, 0, 33, 0, 0, 0, 49, 0, 0, 0, 112, 0, 0, 0, 112, 0, 0, 0, 67]
abbrev dktX11_pullSource_2 : List UInt8 := dkwX11_pullSource_2 ++ dktX11_pullSource_3
def dkwX11_pullSource_1 : List UInt8 := [184, 0, 232, 42, 180, 0, 108]
abbrev dktX11_pullSource_1 : List UInt8 := dkwX11_pullSource_1 ++ dktX11_pullSource_2
def dkwX11_pullSource_0 : List UInt8 := [42, 182, 0, 243, 154, 0, 5, 3, 172, 42, 180, 0, 216, 17, 39, 16, 162, 0, 7, 4, 167, 0, 4, 3]
abbrev dktX11_pullSource_0 : List UInt8 := dkwX11_pullSource_0 ++ dktX11_pullSource_1
theorem dksX11_pullSource_0 : cX11_pullSource.data.toList.drop 0 = dktX11_pullSource_0 := by decide +kernel
theorem dksX11_pullSource_1 : cX11_pullSource.data.toList.drop 24 = dktX11_pullSource_1 := dk_seg dksX11_pullSource_0 24 rfl rfl
theorem dksX11_pullSource_2 : cX11_pullSource.data.toList.drop 31 = dktX11_pullSource_2 := dk_seg dksX11_pullSource_1 7 rfl rfl
theorem dksX11_pullSource_3 : cX11_pullSource.data.toList.drop 64 = dktX11_pullSource_3 := dk_seg dksX11_pullSource_2 33 rfl rfl
theorem dksX11_pullSource_4 : cX11_pullSource.data.toList.drop 86 = dktX11_pullSource_4 := dk_seg dksX11_pullSource_3 22 rfl rfl
theorem dksX11_pullSource_5 : cX11_pullSource.data.toList.drop 108 = dktX11_pullSource_5 := dk_seg dksX11_pullSource_4 22 rfl rfl
theorem dksX11_pullSource_6 : cX11_pullSource.data.toList.drop 132 = dktX11_pullSource_6 := dk_seg dksX11_pullSource_5 24 rfl rfl
theorem dksX11_pullSource_7 : cX11_pullSource.data.toList.drop 156 = dktX11_pullSource_7 := dk_seg dksX11_pullSource_6 24 rfl rfl
theorem dksX11_pullSource_8 : cX11_pullSource.data.toList.drop 180 = dktX11_pullSource_8 := dk_seg dksX11_pullSource_7 24 rfl rfl
theorem dksX11_pullSource_9 : cX11_pullSource.data.toList.drop 202 = dktX11_pullSource_9 := dk_seg dksX11_pullSource_8 22 rfl rfl
theorem dX11_pullSource_0 : decode cX11_pullSource 0 = .ok (.aload_n 0, 1) := dk_42 (dk_at dksX11_pullSource_0 0 rfl rfl)
theorem dX11_pullSource_1 : decode cX11_pullSource 1 = .ok (.invokevirtual 243, 3) := dk_182 0 243 (dk_at dksX11_pullSource_0 1 rfl rfl)
theorem dX11_pullSource_4 : decode cX11_pullSource 4 = .ok (.ifCond .ne 5, 3) := dk_154 0 5 (dk_at dksX11_pullSource_0 4 rfl rfl)
theorem dX11_pullSource_7 : decode cX11_pullSource 7 = .ok (.iconst 0, 1) := dk_3 (dk_at dksX11_pullSource_0 7 rfl rfl)
theorem dX11_pullSource_8 : decode cX11_pullSource 8 = .ok (.ireturn, 1) := dk_172 (dk_at dksX11_pullSource_0 8 rfl rfl)
theorem dX11_pullSource_9 : decode cX11_pullSource 9 = .ok (.aload_n 0, 1) := dk_42 (dk_at dksX11_pullSource_0 9 rfl rfl)
theorem dX11_pullSource_10 : decode cX11_pullSource 10 = .ok (.getfield 216, 3) := dk_180 0 216 (dk_at dksX11_pullSource_0 10 rfl rfl)
theorem dX11_pullSource_13 : decode cX11_pullSource 13 = .ok (.sipush 10000, 3) := dk_17 39 16 (dk_at dksX11_pullSource_0 13 rfl rfl)
theorem dX11_pullSource_16 : decode cX11_pullSource 16 = .ok (.if_icmp .ge 7, 3) := dk_162 0 7 (dk_at dksX11_pullSource_0 16 rfl rfl)
theorem dX11_pullSource_19 : decode cX11_pullSource 19 = .ok (.iconst 1, 1) := dk_4 (dk_at dksX11_pullSource_0 19 rfl rfl)
theorem dX11_pullSource_20 : decode cX11_pullSource 20 = .ok (.goto 4, 3) := dk_167 0 4 (dk_at dksX11_pullSource_0 20 rfl rfl)
theorem dX11_pullSource_23 : decode cX11_pullSource 23 = .ok (.iconst 0, 1) := dk_3 (dk_at dksX11_pullSource_0 23 rfl rfl)
theorem dX11_pullSource_24 : decode cX11_pullSource 24 = .ok (.invokestatic 232, 3) := dk_184 0 232 (dk_at dksX11_pullSource_1 0 rfl rfl)
theorem dX11_pullSource_27 : decode cX11_pullSource 27 = .ok (.aload_n 0, 1) := dk_42 (dk_at dksX11_pullSource_1 3 rfl rfl)
theorem dX11_pullSource_28 : decode cX11_pullSource 28 = .ok (.getfield 108, 3) := dk_180 0 108 (dk_at dksX11_pullSource_1 4 rfl rfl)
theorem dX11_pullSource_31 : decode cX11_pullSource 31 = .ok (.tableswitch 112 0 4 #[33, 49, 112, 112, 67], 33) := by decide +kernel
theorem dX11_pullSource_64 : decode cX11_pullSource 64 = .ok (.aload_n 0, 1) := dk_42 (dk_at dksX11_pullSource_3 0 rfl rfl)
theorem dX11_pullSource_65 : decode cX11_pullSource 65 = .ok (.aload_n 0, 1) := dk_42 (dk_at dksX11_pullSource_3 1 rfl rfl)
theorem dX11_pullSource_66 : decode cX11_pullSource 66 = .ok (.getfield 114, 3) := dk_180 0 114 (dk_at dksX11_pullSource_3 2 rfl rfl)
theorem dX11_pullSource_69 : decode cX11_pullSource 69 = .ok (.aload_n 0, 1) := dk_42 (dk_at dksX11_pullSource_3 5 rfl rfl)
theorem dX11_pullSource_70 : decode cX11_pullSource 70 = .ok (.getfield 216, 3) := dk_180 0 216 (dk_at dksX11_pullSource_3 6 rfl rfl)
theorem dX11_pullSource_73 : decode cX11_pullSource 73 = .ok (.iadd, 1) := dk_96 (dk_at dksX11_pullSource_3 9 rfl rfl)
theorem dX11_pullSource_74 : decode cX11_pullSource 74 = .ok (.putfield 246, 3) := dk_181 0 246 (dk_at dksX11_pullSource_3 10 rfl rfl)
theorem dX11_pullSource_77 : decode cX11_pullSource 77 = .ok (.goto 118, 3) := dk_167 0 118 (dk_at dksX11_pullSource_3 13 rfl rfl)
theorem dX11_pullSource_80 : decode cX11_pullSource 80 = .ok (.aload_n 0, 1) := dk_42 (dk_at dksX11_pullSource_3 16 rfl rfl)
theorem dX11_pullSource_81 : decode cX11_pullSource 81 = .ok (.aload_n 0, 1) := dk_42 (dk_at dksX11_pullSource_3 17 rfl rfl)
theorem dX11_pullSource_82 : decode cX11_pullSource 82 = .ok (.getfield 235, 3) := dk_180 0 235 (dk_at dksX11_pullSource_3 18 rfl rfl)
theorem dX11_pullSource_85 : decode cX11_pullSource 85 = .ok (.aload_n 0, 1) := dk_42 (dk_at dksX11_pullSource_3 21 rfl rfl)
theorem dX11_pullSource_86 : decode cX11_pullSource 86 = .ok (.getfield 216, 3) := dk_180 0 216 (dk_at dksX11_pullSource_4 0 rfl rfl)
theorem dX11_pullSource_89 : decode cX11_pullSource 89 = .ok (.invokevirtual 249, 3) := dk_182 0 249 (dk_at dksX11_pullSource_4 3 rfl rfl)
theorem dX11_pullSource_92 : decode cX11_pullSource 92 = .ok (.putfield 246, 3) := dk_181 0 246 (dk_at dksX11_pullSource_4 6 rfl rfl)
theorem dX11_pullSource_95 : decode cX11_pullSource 95 = .ok (.goto 100, 3) := dk_167 0 100 (dk_at dksX11_pullSource_4 9 rfl rfl)
theorem dX11_pullSource_98 : decode cX11_pullSource 98 = .ok (.aload_n 0, 1) := dk_42 (dk_at dksX11_pullSource_4 12 rfl rfl)
theorem dX11_pullSource_99 : decode cX11_pullSource 99 = .ok (.aload_n 0, 1) := dk_42 (dk_at dksX11_pullSource_4 13 rfl rfl)
theorem dX11_pullSource_100 : decode cX11_pullSource 100 = .ok (.getfield 216, 3) := dk_180 0 216 (dk_at dksX11_pullSource_4 14 rfl rfl)
theorem dX11_pullSource_103 : decode cX11_pullSource 103 = .ok (.ifCond .le 22, 3) := dk_158 0 22 (dk_at dksX11_pullSource_4 17 rfl rfl)
theorem dX11_pullSource_106 : decode cX11_pullSource 106 = .ok (.aload_n 0, 1) := dk_42 (dk_at dksX11_pullSource_4 20 rfl rfl)
theorem dX11_pullSource_107 : decode cX11_pullSource 107 = .ok (.aload_n 0, 1) := dk_42 (dk_at dksX11_pullSource_4 21 rfl rfl)
theorem dX11_pullSource_108 : decode cX11_pullSource 108 = .ok (.getfield 123, 3) := dk_180 0 123 (dk_at dksX11_pullSource_5 0 rfl rfl)
theorem dX11_pullSource_111 : decode cX11_pullSource 111 = .ok (.aload_n 0, 1) := dk_42 (dk_at dksX11_pullSource_5 3 rfl rfl)
theorem dX11_pullSource_112 : decode cX11_pullSource 112 = .ok (.getfield 126, 3) := dk_180 0 126 (dk_at dksX11_pullSource_5 4 rfl rfl)
theorem dX11_pullSource_115 : decode cX11_pullSource 115 = .ok (.aload_n 0, 1) := dk_42 (dk_at dksX11_pullSource_5 7 rfl rfl)
theorem dX11_pullSource_116 : decode cX11_pullSource 116 = .ok (.getfield 253, 3) := dk_180 0 253 (dk_at dksX11_pullSource_5 8 rfl rfl)
theorem dX11_pullSource_119 : decode cX11_pullSource 119 = .ok (.invokevirtual 256, 3) := dk_182 1 0 (dk_at dksX11_pullSource_5 11 rfl rfl)
theorem dX11_pullSource_122 : decode cX11_pullSource 122 = .ok (.goto 7, 3) := dk_167 0 7 (dk_at dksX11_pullSource_5 14 rfl rfl)
theorem dX11_pullSource_125 : decode cX11_pullSource 125 = .ok (.aload_n 0, 1) := dk_42 (dk_at dksX11_pullSource_5 17 rfl rfl)
theorem dX11_pullSource_126 : decode cX11_pullSource 126 = .ok (.getfield 114, 3) := dk_180 0 114 (dk_at dksX11_pullSource_5 18 rfl rfl)
theorem dX11_pullSource_129 : decode cX11_pullSource 129 = .ok (.putfield 246, 3) := dk_181 0 246 (dk_at dksX11_pullSource_5 21 rfl rfl)
theorem dX11_pullSource_132 : decode cX11_pullSource 132 = .ok (.aload_n 0, 1) := dk_42 (dk_at dksX11_pullSource_6 0 rfl rfl)
theorem dX11_pullSource_133 : decode cX11_pullSource 133 = .ok (.aload_n 0, 1) := dk_42 (dk_at dksX11_pullSource_6 1 rfl rfl)
theorem dX11_pullSource_134 : decode cX11_pullSource 134 = .ok (.getfield 246, 3) := dk_180 0 246 (dk_at dksX11_pullSource_6 2 rfl rfl)
theorem dX11_pullSource_137 : decode cX11_pullSource 137 = .ok (.putfield 253, 3) := dk_181 0 253 (dk_at dksX11_pullSource_6 5 rfl rfl)
theorem dX11_pullSource_140 : decode cX11_pullSource 140 = .ok (.goto 55, 3) := dk_167 0 55 (dk_at dksX11_pullSource_6 8 rfl rfl)
theorem dX11_pullSource_143 : decode cX11_pullSource 143 = .ok (.aload_n 0, 1) := dk_42 (dk_at dksX11_pullSource_6 11 rfl rfl)
theorem dX11_pullSource_144 : decode cX11_pullSource 144 = .ok (.aload_n 0, 1) := dk_42 (dk_at dksX11_pullSource_6 12 rfl rfl)
theorem dX11_pullSource_145 : decode cX11_pullSource 145 = .ok (.getfield 108, 3) := dk_180 0 108 (dk_at dksX11_pullSource_6 13 rfl rfl)
theorem dX11_pullSource_148 : decode cX11_pullSource 148 = .ok (.iconst 2, 1) := dk_5 (dk_at dksX11_pullSource_6 16 rfl rfl)
theorem dX11_pullSource_149 : decode cX11_pullSource 149 = .ok (.if_icmp .ne 17, 3) := dk_160 0 17 (dk_at dksX11_pullSource_6 17 rfl rfl)
theorem dX11_pullSource_152 : decode cX11_pullSource 152 = .ok (.aload_n 0, 1) := dk_42 (dk_at dksX11_pullSource_6 20 rfl rfl)
theorem dX11_pullSource_153 : decode cX11_pullSource 153 = .ok (.getfield 222, 3) := dk_180 0 222 (dk_at dksX11_pullSource_6 21 rfl rfl)
theorem dX11_pullSource_156 : decode cX11_pullSource 156 = .ok (.aload_n 0, 1) := dk_42 (dk_at dksX11_pullSource_7 0 rfl rfl)
theorem dX11_pullSource_157 : decode cX11_pullSource 157 = .ok (.getfield 229, 3) := dk_180 0 229 (dk_at dksX11_pullSource_7 1 rfl rfl)
theorem dX11_pullSource_160 : decode cX11_pullSource 160 = .ok (.invokevirtual 260, 3) := dk_182 1 4 (dk_at dksX11_pullSource_7 4 rfl rfl)
theorem dX11_pullSource_163 : decode cX11_pullSource 163 = .ok (.goto 14, 3) := dk_167 0 14 (dk_at dksX11_pullSource_7 7 rfl rfl)
theorem dX11_pullSource_166 : decode cX11_pullSource 166 = .ok (.aload_n 0, 1) := dk_42 (dk_at dksX11_pullSource_7 10 rfl rfl)
theorem dX11_pullSource_167 : decode cX11_pullSource 167 = .ok (.getfield 222, 3) := dk_180 0 222 (dk_at dksX11_pullSource_7 11 rfl rfl)
theorem dX11_pullSource_170 : decode cX11_pullSource 170 = .ok (.aload_n 0, 1) := dk_42 (dk_at dksX11_pullSource_7 14 rfl rfl)
theorem dX11_pullSource_171 : decode cX11_pullSource 171 = .ok (.getfield 229, 3) := dk_180 0 229 (dk_at dksX11_pullSource_7 15 rfl rfl)
theorem dX11_pullSource_174 : decode cX11_pullSource 174 = .ok (.invokevirtual 263, 3) := dk_182 1 7 (dk_at dksX11_pullSource_7 18 rfl rfl)
theorem dX11_pullSource_177 : decode cX11_pullSource 177 = .ok (.putfield 246, 3) := dk_181 0 246 (dk_at dksX11_pullSource_7 21 rfl rfl)
theorem dX11_pullSource_180 : decode cX11_pullSource 180 = .ok (.aload_n 0, 1) := dk_42 (dk_at dksX11_pullSource_8 0 rfl rfl)
theorem dX11_pullSource_181 : decode cX11_pullSource 181 = .ok (.aload_n 0, 1) := dk_42 (dk_at dksX11_pullSource_8 1 rfl rfl)
theorem dX11_pullSource_182 : decode cX11_pullSource 182 = .ok (.getfield 222, 3) := dk_180 0 222 (dk_at dksX11_pullSource_8 2 rfl rfl)
theorem dX11_pullSource_185 : decode cX11_pullSource 185 = .ok (.aload_n 0, 1) := dk_42 (dk_at dksX11_pullSource_8 5 rfl rfl)
theorem dX11_pullSource_186 : decode cX11_pullSource 186 = .ok (.getfield 229, 3) := dk_180 0 229 (dk_at dksX11_pullSource_8 6 rfl rfl)
theorem dX11_pullSource_189 : decode cX11_pullSource 189 = .ok (.invokevirtual 266, 3) := dk_182 1 10 (dk_at dksX11_pullSource_8 9 rfl rfl)
theorem dX11_pullSource_192 : decode cX11_pullSource 192 = .ok (.putfield 229, 3) := dk_181 0 229 (dk_at dksX11_pullSource_8 12 rfl rfl)
theorem dX11_pullSource_195 : decode cX11_pullSource 195 = .ok (.aload_n 0, 1) := dk_42 (dk_at dksX11_pullSource_8 15 rfl rfl)
theorem dX11_pullSource_196 : decode cX11_pullSource 196 = .ok (.dup, 1) := dk_89 (dk_at dksX11_pullSource_8 16 rfl rfl)
theorem dX11_pullSource_197 : decode cX11_pullSource 197 = .ok (.getfield 216, 3) := dk_180 0 216 (dk_at dksX11_pullSource_8 17 rfl rfl)
theorem dX11_pullSource_200 : decode cX11_pullSource 200 = .ok (.iconst 1, 1) := dk_4 (dk_at dksX11_pullSource_8 20 rfl rfl)
theorem dX11_pullSource_201 : decode cX11_pullSource 201 = .ok (.iadd, 1) := dk_96 (dk_at dksX11_pullSource_8 21 rfl rfl)
theorem dX11_pullSource_202 : decode cX11_pullSource 202 = .ok (.putfield 216, 3) := dk_181 0 216 (dk_at dksX11_pullSource_9 0 rfl rfl)
theorem dX11_pullSource_205 : decode cX11_pullSource 205 = .ok (.iconst 1, 1) := dk_4 (dk_at dksX11_pullSource_9 3 rfl rfl)
theorem dX11_pullSource_206 : decode cX11_pullSource 206 = .ok (.ireturn, 1) := dk_172 (dk_at dksX11_pullSource_9 4 rfl rfl)
abbrev cX11_hasMore : ByteArray := prog_29_method_13_code
def yX11_hasMore : MethodName := ⟨RX11, "hasMore", "()Z"⟩
def dkwX11_hasMore_4 : List UInt8 := [42, 180, 0, 229, 155, 0, 7, 4, 167, 0, 4, 3, 172]
abbrev dktX11_hasMore_4 : List UInt8 := dkwX11_hasMore_4 ++ []
def dkwX11_hasMore_3 : List UInt8 := [3, 172, 42, 180, 0, 216, 42, 180, 0, 235, 182, 0, 238, 162, 0, 7, 4, 167, 0, 4, 3, 172, 4, 172]
abbrev dktX11_hasMore_3 : List UInt8 := dkwX11_hasMore_3 ++ dktX11_hasMore_4
def dkwX11_hasMore_2 : List UInt8 := [42, 180, 0, 114, 133, 42, 180, 0, 216, 133, 97, 42, 180, 0, 117, 133, 148, 156, 0, 7, 4, 167, 0, 4]
abbrev dktX11_hasMore_2 : List UInt8 := dkwX11_hasMore_2 ++ dktX11_hasMore_3
def dkwX11_hasMore_1 : List UInt8 := [170, 0, 0, 0, 0, 0, 0, 84, 0, 0, 0, 0, 0, 0, 0, 4, 0, 0, 0, 36, 0, 0, 0, 62, 0, 0, 0, 84, 0, 0, 0, 84, 0, 0, 0, 82]
abbrev dktX11_hasMore_1 : List UInt8 := dkwX11_hasMore_1 ++ dktX11_hasMore_2
def dkwX11_hasMore_0 : List UInt8 := [42, 180, 0, 108]
abbrev dktX11_hasMore_0 : List UInt8 := dkwX11_hasMore_0 ++ dktX11_hasMore_1
theorem dksX11_hasMore_0 : cX11_hasMore.data.toList.drop 0 = dktX11_hasMore_0 := by decide +kernel
theorem dksX11_hasMore_1 : cX11_hasMore.data.toList.drop 4 = dktX11_hasMore_1 := dk_seg dksX11_hasMore_0 4 rfl rfl
theorem dksX11_hasMore_2 : cX11_hasMore.data.toList.drop 40 = dktX11_hasMore_2 := dk_seg dksX11_hasMore_1 36 rfl rfl
theorem dksX11_hasMore_3 : cX11_hasMore.data.toList.drop 64 = dktX11_hasMore_3 := dk_seg dksX11_hasMore_2 24 rfl rfl
theorem dksX11_hasMore_4 : cX11_hasMore.data.toList.drop 88 = dktX11_hasMore_4 := dk_seg dksX11_hasMore_3 24 rfl rfl
theorem dX11_hasMore_0 : decode cX11_hasMore 0 = .ok (.aload_n 0, 1) := dk_42 (dk_at dksX11_hasMore_0 0 rfl rfl)
theorem dX11_hasMore_1 : decode cX11_hasMore 1 = .ok (.getfield 108, 3) := dk_180 0 108 (dk_at dksX11_hasMore_0 1 rfl rfl)
theorem dX11_hasMore_4 : decode cX11_hasMore 4 = .ok (.tableswitch 84 0 4 #[36, 62, 84, 84, 82], 36) := by decide +kernel
theorem dX11_hasMore_40 : decode cX11_hasMore 40 = .ok (.aload_n 0, 1) := dk_42 (dk_at dksX11_hasMore_2 0 rfl rfl)
theorem dX11_hasMore_41 : decode cX11_hasMore 41 = .ok (.getfield 114, 3) := dk_180 0 114 (dk_at dksX11_hasMore_2 1 rfl rfl)
theorem dX11_hasMore_44 : decode cX11_hasMore 44 = .ok (.i2l, 1) := dk_133 (dk_at dksX11_hasMore_2 4 rfl rfl)
theorem dX11_hasMore_45 : decode cX11_hasMore 45 = .ok (.aload_n 0, 1) := dk_42 (dk_at dksX11_hasMore_2 5 rfl rfl)
theorem dX11_hasMore_46 : decode cX11_hasMore 46 = .ok (.getfield 216, 3) := dk_180 0 216 (dk_at dksX11_hasMore_2 6 rfl rfl)
theorem dX11_hasMore_49 : decode cX11_hasMore 49 = .ok (.i2l, 1) := dk_133 (dk_at dksX11_hasMore_2 9 rfl rfl)
theorem dX11_hasMore_50 : decode cX11_hasMore 50 = .ok (.ladd, 1) := dk_97 (dk_at dksX11_hasMore_2 10 rfl rfl)
theorem dX11_hasMore_51 : decode cX11_hasMore 51 = .ok (.aload_n 0, 1) := dk_42 (dk_at dksX11_hasMore_2 11 rfl rfl)
theorem dX11_hasMore_52 : decode cX11_hasMore 52 = .ok (.getfield 117, 3) := dk_180 0 117 (dk_at dksX11_hasMore_2 12 rfl rfl)
theorem dX11_hasMore_55 : decode cX11_hasMore 55 = .ok (.i2l, 1) := dk_133 (dk_at dksX11_hasMore_2 15 rfl rfl)
theorem dX11_hasMore_56 : decode cX11_hasMore 56 = .ok (.lcmp, 1) := dk_148 (dk_at dksX11_hasMore_2 16 rfl rfl)
theorem dX11_hasMore_57 : decode cX11_hasMore 57 = .ok (.ifCond .ge 7, 3) := dk_156 0 7 (dk_at dksX11_hasMore_2 17 rfl rfl)
theorem dX11_hasMore_60 : decode cX11_hasMore 60 = .ok (.iconst 1, 1) := dk_4 (dk_at dksX11_hasMore_2 20 rfl rfl)
theorem dX11_hasMore_61 : decode cX11_hasMore 61 = .ok (.goto 4, 3) := dk_167 0 4 (dk_at dksX11_hasMore_2 21 rfl rfl)
theorem dX11_hasMore_64 : decode cX11_hasMore 64 = .ok (.iconst 0, 1) := dk_3 (dk_at dksX11_hasMore_3 0 rfl rfl)
theorem dX11_hasMore_65 : decode cX11_hasMore 65 = .ok (.ireturn, 1) := dk_172 (dk_at dksX11_hasMore_3 1 rfl rfl)
theorem dX11_hasMore_66 : decode cX11_hasMore 66 = .ok (.aload_n 0, 1) := dk_42 (dk_at dksX11_hasMore_3 2 rfl rfl)
theorem dX11_hasMore_67 : decode cX11_hasMore 67 = .ok (.getfield 216, 3) := dk_180 0 216 (dk_at dksX11_hasMore_3 3 rfl rfl)
theorem dX11_hasMore_70 : decode cX11_hasMore 70 = .ok (.aload_n 0, 1) := dk_42 (dk_at dksX11_hasMore_3 6 rfl rfl)
theorem dX11_hasMore_71 : decode cX11_hasMore 71 = .ok (.getfield 235, 3) := dk_180 0 235 (dk_at dksX11_hasMore_3 7 rfl rfl)
theorem dX11_hasMore_74 : decode cX11_hasMore 74 = .ok (.invokevirtual 238, 3) := dk_182 0 238 (dk_at dksX11_hasMore_3 10 rfl rfl)
theorem dX11_hasMore_77 : decode cX11_hasMore 77 = .ok (.if_icmp .ge 7, 3) := dk_162 0 7 (dk_at dksX11_hasMore_3 13 rfl rfl)
theorem dX11_hasMore_80 : decode cX11_hasMore 80 = .ok (.iconst 1, 1) := dk_4 (dk_at dksX11_hasMore_3 16 rfl rfl)
theorem dX11_hasMore_81 : decode cX11_hasMore 81 = .ok (.goto 4, 3) := dk_167 0 4 (dk_at dksX11_hasMore_3 17 rfl rfl)
theorem dX11_hasMore_84 : decode cX11_hasMore 84 = .ok (.iconst 0, 1) := dk_3 (dk_at dksX11_hasMore_3 20 rfl rfl)
theorem dX11_hasMore_85 : decode cX11_hasMore 85 = .ok (.ireturn, 1) := dk_172 (dk_at dksX11_hasMore_3 21 rfl rfl)
theorem dX11_hasMore_86 : decode cX11_hasMore 86 = .ok (.iconst 1, 1) := dk_4 (dk_at dksX11_hasMore_3 22 rfl rfl)
theorem dX11_hasMore_87 : decode cX11_hasMore 87 = .ok (.ireturn, 1) := dk_172 (dk_at dksX11_hasMore_3 23 rfl rfl)
theorem dX11_hasMore_88 : decode cX11_hasMore 88 = .ok (.aload_n 0, 1) := dk_42 (dk_at dksX11_hasMore_4 0 rfl rfl)
theorem dX11_hasMore_89 : decode cX11_hasMore 89 = .ok (.getfield 229, 3) := dk_180 0 229 (dk_at dksX11_hasMore_4 1 rfl rfl)
theorem dX11_hasMore_92 : decode cX11_hasMore 92 = .ok (.ifCond .lt 7, 3) := dk_155 0 7 (dk_at dksX11_hasMore_4 4 rfl rfl)
theorem dX11_hasMore_95 : decode cX11_hasMore 95 = .ok (.iconst 1, 1) := dk_4 (dk_at dksX11_hasMore_4 7 rfl rfl)
theorem dX11_hasMore_96 : decode cX11_hasMore 96 = .ok (.goto 4, 3) := dk_167 0 4 (dk_at dksX11_hasMore_4 8 rfl rfl)
theorem dX11_hasMore_99 : decode cX11_hasMore 99 = .ok (.iconst 0, 1) := dk_3 (dk_at dksX11_hasMore_4 11 rfl rfl)
theorem dX11_hasMore_100 : decode cX11_hasMore 100 = .ok (.ireturn, 1) := dk_172 (dk_at dksX11_hasMore_4 12 rfl rfl)
abbrev cX11_apply : ByteArray := prog_29_method_12_code
def yX11_apply : MethodName := ⟨RX11, "apply", "(III)I"⟩
def dkwX11_apply_4 : List UInt8 := [167, 0, 4, 29, 172]
abbrev dktX11_apply_4 : List UInt8 := dkwX11_apply_4 ++ []
def dkwX11_apply_3 : List UInt8 := [27, 6, 160, 0, 9, 29, 28, 108, 167, 0, 6, 29, 28, 112, 172, 29, 116, 172, 29, 156, 0, 8, 29, 116]
abbrev dktX11_apply_3 : List UInt8 := dkwX11_apply_3 ++ dktX11_apply_4
def dkwX11_apply_2 : List UInt8 := [29, 28, 96, 172, 29, 28, 100, 172, 29, 28, 104, 172, 28, 153, 0, 7, 4, 167, 0, 4, 3, 184, 0, 232]
abbrev dktX11_apply_2 : List UInt8 := dkwX11_apply_2 ++ dktX11_apply_3
def dkwX11_apply_1 : List UInt8 := [170, 0, 0, 0, 79, 0, 0, 0, 0, 0, 0, 0, 5, 0, 0, 0, 37, 0, 0, 0, 41, 0, 0, 0, 45, 0, 0, 0, 49, 0, 0, 0, 49, 0, 0, 0, 76]
abbrev dktX11_apply_1 : List UInt8 := dkwX11_apply_1 ++ dktX11_apply_2
def dkwX11_apply_0 : List UInt8 := [42, 89, 180, 0, 213, 4, 96, 181, 0, 213, 27]
abbrev dktX11_apply_0 : List UInt8 := dkwX11_apply_0 ++ dktX11_apply_1
theorem dksX11_apply_0 : cX11_apply.data.toList.drop 0 = dktX11_apply_0 := by decide +kernel
theorem dksX11_apply_1 : cX11_apply.data.toList.drop 11 = dktX11_apply_1 := dk_seg dksX11_apply_0 11 rfl rfl
theorem dksX11_apply_2 : cX11_apply.data.toList.drop 48 = dktX11_apply_2 := dk_seg dksX11_apply_1 37 rfl rfl
theorem dksX11_apply_3 : cX11_apply.data.toList.drop 72 = dktX11_apply_3 := dk_seg dksX11_apply_2 24 rfl rfl
theorem dksX11_apply_4 : cX11_apply.data.toList.drop 96 = dktX11_apply_4 := dk_seg dksX11_apply_3 24 rfl rfl
theorem dX11_apply_0 : decode cX11_apply 0 = .ok (.aload_n 0, 1) := dk_42 (dk_at dksX11_apply_0 0 rfl rfl)
theorem dX11_apply_1 : decode cX11_apply 1 = .ok (.dup, 1) := dk_89 (dk_at dksX11_apply_0 1 rfl rfl)
theorem dX11_apply_2 : decode cX11_apply 2 = .ok (.getfield 213, 3) := dk_180 0 213 (dk_at dksX11_apply_0 2 rfl rfl)
theorem dX11_apply_5 : decode cX11_apply 5 = .ok (.iconst 1, 1) := dk_4 (dk_at dksX11_apply_0 5 rfl rfl)
theorem dX11_apply_6 : decode cX11_apply 6 = .ok (.iadd, 1) := dk_96 (dk_at dksX11_apply_0 6 rfl rfl)
theorem dX11_apply_7 : decode cX11_apply 7 = .ok (.putfield 213, 3) := dk_181 0 213 (dk_at dksX11_apply_0 7 rfl rfl)
theorem dX11_apply_10 : decode cX11_apply 10 = .ok (.iload_n 1, 1) := dk_27 (dk_at dksX11_apply_0 10 rfl rfl)
theorem dX11_apply_11 : decode cX11_apply 11 = .ok (.tableswitch 79 0 5 #[37, 41, 45, 49, 49, 76], 37) := by decide +kernel
theorem dX11_apply_48 : decode cX11_apply 48 = .ok (.iload_n 3, 1) := dk_29 (dk_at dksX11_apply_2 0 rfl rfl)
theorem dX11_apply_49 : decode cX11_apply 49 = .ok (.iload_n 2, 1) := dk_28 (dk_at dksX11_apply_2 1 rfl rfl)
theorem dX11_apply_50 : decode cX11_apply 50 = .ok (.iadd, 1) := dk_96 (dk_at dksX11_apply_2 2 rfl rfl)
theorem dX11_apply_51 : decode cX11_apply 51 = .ok (.ireturn, 1) := dk_172 (dk_at dksX11_apply_2 3 rfl rfl)
theorem dX11_apply_52 : decode cX11_apply 52 = .ok (.iload_n 3, 1) := dk_29 (dk_at dksX11_apply_2 4 rfl rfl)
theorem dX11_apply_53 : decode cX11_apply 53 = .ok (.iload_n 2, 1) := dk_28 (dk_at dksX11_apply_2 5 rfl rfl)
theorem dX11_apply_54 : decode cX11_apply 54 = .ok (.isub, 1) := dk_100 (dk_at dksX11_apply_2 6 rfl rfl)
theorem dX11_apply_55 : decode cX11_apply 55 = .ok (.ireturn, 1) := dk_172 (dk_at dksX11_apply_2 7 rfl rfl)
theorem dX11_apply_56 : decode cX11_apply 56 = .ok (.iload_n 3, 1) := dk_29 (dk_at dksX11_apply_2 8 rfl rfl)
theorem dX11_apply_57 : decode cX11_apply 57 = .ok (.iload_n 2, 1) := dk_28 (dk_at dksX11_apply_2 9 rfl rfl)
theorem dX11_apply_58 : decode cX11_apply 58 = .ok (.imul, 1) := dk_104 (dk_at dksX11_apply_2 10 rfl rfl)
theorem dX11_apply_59 : decode cX11_apply 59 = .ok (.ireturn, 1) := dk_172 (dk_at dksX11_apply_2 11 rfl rfl)
theorem dX11_apply_60 : decode cX11_apply 60 = .ok (.iload_n 2, 1) := dk_28 (dk_at dksX11_apply_2 12 rfl rfl)
theorem dX11_apply_61 : decode cX11_apply 61 = .ok (.ifCond .eq 7, 3) := dk_153 0 7 (dk_at dksX11_apply_2 13 rfl rfl)
theorem dX11_apply_64 : decode cX11_apply 64 = .ok (.iconst 1, 1) := dk_4 (dk_at dksX11_apply_2 16 rfl rfl)
theorem dX11_apply_65 : decode cX11_apply 65 = .ok (.goto 4, 3) := dk_167 0 4 (dk_at dksX11_apply_2 17 rfl rfl)
theorem dX11_apply_68 : decode cX11_apply 68 = .ok (.iconst 0, 1) := dk_3 (dk_at dksX11_apply_2 20 rfl rfl)
theorem dX11_apply_69 : decode cX11_apply 69 = .ok (.invokestatic 232, 3) := dk_184 0 232 (dk_at dksX11_apply_2 21 rfl rfl)
theorem dX11_apply_72 : decode cX11_apply 72 = .ok (.iload_n 1, 1) := dk_27 (dk_at dksX11_apply_3 0 rfl rfl)
theorem dX11_apply_73 : decode cX11_apply 73 = .ok (.iconst 3, 1) := dk_6 (dk_at dksX11_apply_3 1 rfl rfl)
theorem dX11_apply_74 : decode cX11_apply 74 = .ok (.if_icmp .ne 9, 3) := dk_160 0 9 (dk_at dksX11_apply_3 2 rfl rfl)
theorem dX11_apply_77 : decode cX11_apply 77 = .ok (.iload_n 3, 1) := dk_29 (dk_at dksX11_apply_3 5 rfl rfl)
theorem dX11_apply_78 : decode cX11_apply 78 = .ok (.iload_n 2, 1) := dk_28 (dk_at dksX11_apply_3 6 rfl rfl)
theorem dX11_apply_79 : decode cX11_apply 79 = .ok (.idiv, 1) := dk_108 (dk_at dksX11_apply_3 7 rfl rfl)
theorem dX11_apply_80 : decode cX11_apply 80 = .ok (.goto 6, 3) := dk_167 0 6 (dk_at dksX11_apply_3 8 rfl rfl)
theorem dX11_apply_83 : decode cX11_apply 83 = .ok (.iload_n 3, 1) := dk_29 (dk_at dksX11_apply_3 11 rfl rfl)
theorem dX11_apply_84 : decode cX11_apply 84 = .ok (.iload_n 2, 1) := dk_28 (dk_at dksX11_apply_3 12 rfl rfl)
theorem dX11_apply_85 : decode cX11_apply 85 = .ok (.irem, 1) := dk_112 (dk_at dksX11_apply_3 13 rfl rfl)
theorem dX11_apply_86 : decode cX11_apply 86 = .ok (.ireturn, 1) := dk_172 (dk_at dksX11_apply_3 14 rfl rfl)
theorem dX11_apply_87 : decode cX11_apply 87 = .ok (.iload_n 3, 1) := dk_29 (dk_at dksX11_apply_3 15 rfl rfl)
theorem dX11_apply_88 : decode cX11_apply 88 = .ok (.ineg, 1) := dk_116 (dk_at dksX11_apply_3 16 rfl rfl)
theorem dX11_apply_89 : decode cX11_apply 89 = .ok (.ireturn, 1) := dk_172 (dk_at dksX11_apply_3 17 rfl rfl)
theorem dX11_apply_90 : decode cX11_apply 90 = .ok (.iload_n 3, 1) := dk_29 (dk_at dksX11_apply_3 18 rfl rfl)
theorem dX11_apply_91 : decode cX11_apply 91 = .ok (.ifCond .ge 8, 3) := dk_156 0 8 (dk_at dksX11_apply_3 19 rfl rfl)
theorem dX11_apply_94 : decode cX11_apply 94 = .ok (.iload_n 3, 1) := dk_29 (dk_at dksX11_apply_3 22 rfl rfl)
theorem dX11_apply_95 : decode cX11_apply 95 = .ok (.ineg, 1) := dk_116 (dk_at dksX11_apply_3 23 rfl rfl)
theorem dX11_apply_96 : decode cX11_apply 96 = .ok (.goto 4, 3) := dk_167 0 4 (dk_at dksX11_apply_4 0 rfl rfl)
theorem dX11_apply_99 : decode cX11_apply 99 = .ok (.iload_n 3, 1) := dk_29 (dk_at dksX11_apply_4 3 rfl rfl)
theorem dX11_apply_100 : decode cX11_apply 100 = .ok (.ireturn, 1) := dk_172 (dk_at dksX11_apply_4 4 rfl rfl)
abbrev cX11_comes : ByteArray := prog_29_method_16_code
def yX11_comes : MethodName := ⟨RX11, "comes", "(I)Z"⟩
def dkwX11_comes_14 : List UInt8 := [42, 180, 0, 33, 27, 4, 84, 4, 172]
abbrev dktX11_comes_14 : List UInt8 := dkwX11_comes_14 ++ []
def dkwX11_comes_13 : List UInt8 := [46, 28, 42, 180, 0, 246, 182, 1, 23, 154, 0, 15, 42, 27, 4, 100, 182, 1, 20, 154, 255, 222, 3, 172]
abbrev dktX11_comes_13 : List UInt8 := dkwX11_comes_13 ++ dktX11_comes_14
def dkwX11_comes_12 : List UInt8 := [100, 182, 1, 20, 154, 0, 5, 3, 172, 42, 180, 0, 33, 27, 51, 154, 0, 33, 42, 42, 180, 0, 24, 27]
abbrev dktX11_comes_12 : List UInt8 := dkwX11_comes_12 ++ dktX11_comes_13
def dkwX11_comes_11 : List UInt8 := [4, 167, 0, 4, 3, 84, 42, 180, 0, 33, 27, 51, 154, 0, 7, 4, 167, 0, 4, 3, 172, 42, 27, 4]
abbrev dktX11_comes_11 : List UInt8 := dkwX11_comes_11 ++ dktX11_comes_12
def dkwX11_comes_10 : List UInt8 := [172, 42, 180, 0, 33, 27, 42, 42, 180, 0, 24, 27, 46, 28, 42, 180, 0, 246, 182, 1, 23, 154, 0, 7]
abbrev dktX11_comes_10 : List UInt8 := dkwX11_comes_10 ++ dktX11_comes_11
def dkwX11_comes_9 : List UInt8 := [182, 1, 20, 172, 42, 180, 0, 33, 27, 51, 154, 0, 13, 42, 27, 4, 100, 182, 1, 20, 154, 0, 5, 3]
abbrev dktX11_comes_9 : List UInt8 := dkwX11_comes_9 ++ dktX11_comes_10
def dkwX11_comes_8 : List UInt8 := [154, 0, 5, 3, 172, 42, 180, 0, 30, 27, 92, 46, 4, 96, 79, 167, 255, 224, 42, 27, 4, 100]
abbrev dktX11_comes_8 : List UInt8 := dkwX11_comes_8 ++ dktX11_comes_9
def dkwX11_comes_7 : List UInt8 := [27, 4, 100, 182, 1, 20, 172, 42, 180, 0, 30, 27, 46, 28, 162, 0, 28, 42, 27, 4, 100, 182, 1, 20]
abbrev dktX11_comes_7 : List UInt8 := dkwX11_comes_7 ++ dktX11_comes_8
def dkwX11_comes_6 : List UInt8 := [172, 42, 180, 0, 30, 27, 46, 28, 160, 0, 5, 3, 172, 42, 180, 0, 30, 27, 92, 46, 4, 96, 79, 42]
abbrev dktX11_comes_6 : List UInt8 := dkwX11_comes_6 ++ dktX11_comes_7
def dkwX11_comes_5 : List UInt8 := [181, 0, 246, 4, 172, 42, 27, 28, 182, 1, 27, 172, 42, 27, 182, 1, 30, 172, 42, 27, 28, 182, 1, 32]
abbrev dktX11_comes_5 : List UInt8 := dkwX11_comes_5 ++ dktX11_comes_6
def dkwX11_comes_4 : List UInt8 := [182, 1, 20, 154, 0, 5, 3, 172, 42, 42, 42, 180, 0, 24, 27, 46, 28, 42, 180, 0, 246, 182, 1, 0]
abbrev dktX11_comes_4 : List UInt8 := dkwX11_comes_4 ++ dktX11_comes_5
def dkwX11_comes_3 : List UInt8 := [182, 1, 23, 154, 0, 14, 42, 27, 4, 100, 182, 1, 20, 62, 167, 255, 226, 29, 172, 42, 27, 4, 100]
abbrev dktX11_comes_3 : List UInt8 := dkwX11_comes_3 ++ dktX11_comes_4
def dkwX11_comes_2 : List UInt8 := [42, 27, 4, 100, 182, 1, 20, 62, 29, 153, 0, 32, 42, 42, 180, 0, 24, 27, 46, 28, 42, 180, 0, 246]
abbrev dktX11_comes_2 : List UInt8 := dkwX11_comes_2 ++ dktX11_comes_3
def dkwX11_comes_1 : List UInt8 := [170, 0, 0, 0, 0, 1, 25, 0, 0, 0, 0, 0, 0, 0, 7, 0, 0, 0, 47, 0, 0, 0, 90, 0, 0, 0, 123, 0, 0, 0, 130, 0, 0, 0, 136, 0, 0, 0, 143, 0, 0, 0, 173, 0, 0, 0, 216]
abbrev dktX11_comes_1 : List UInt8 := dkwX11_comes_1 ++ dktX11_comes_2
def dkwX11_comes_0 : List UInt8 := [42, 180, 0, 27, 27, 46, 61, 42, 180, 0, 20, 27, 46]
abbrev dktX11_comes_0 : List UInt8 := dkwX11_comes_0 ++ dktX11_comes_1
theorem dksX11_comes_0 : cX11_comes.data.toList.drop 0 = dktX11_comes_0 := by decide +kernel
theorem dksX11_comes_1 : cX11_comes.data.toList.drop 13 = dktX11_comes_1 := dk_seg dksX11_comes_0 13 rfl rfl
theorem dksX11_comes_2 : cX11_comes.data.toList.drop 60 = dktX11_comes_2 := dk_seg dksX11_comes_1 47 rfl rfl
theorem dksX11_comes_3 : cX11_comes.data.toList.drop 84 = dktX11_comes_3 := dk_seg dksX11_comes_2 24 rfl rfl
theorem dksX11_comes_4 : cX11_comes.data.toList.drop 107 = dktX11_comes_4 := dk_seg dksX11_comes_3 23 rfl rfl
theorem dksX11_comes_5 : cX11_comes.data.toList.drop 131 = dktX11_comes_5 := dk_seg dksX11_comes_4 24 rfl rfl
theorem dksX11_comes_6 : cX11_comes.data.toList.drop 155 = dktX11_comes_6 := dk_seg dksX11_comes_5 24 rfl rfl
theorem dksX11_comes_7 : cX11_comes.data.toList.drop 179 = dktX11_comes_7 := dk_seg dksX11_comes_6 24 rfl rfl
theorem dksX11_comes_8 : cX11_comes.data.toList.drop 203 = dktX11_comes_8 := dk_seg dksX11_comes_7 24 rfl rfl
theorem dksX11_comes_9 : cX11_comes.data.toList.drop 225 = dktX11_comes_9 := dk_seg dksX11_comes_8 22 rfl rfl
theorem dksX11_comes_10 : cX11_comes.data.toList.drop 249 = dktX11_comes_10 := dk_seg dksX11_comes_9 24 rfl rfl
theorem dksX11_comes_11 : cX11_comes.data.toList.drop 273 = dktX11_comes_11 := dk_seg dksX11_comes_10 24 rfl rfl
theorem dksX11_comes_12 : cX11_comes.data.toList.drop 297 = dktX11_comes_12 := dk_seg dksX11_comes_11 24 rfl rfl
theorem dksX11_comes_13 : cX11_comes.data.toList.drop 321 = dktX11_comes_13 := dk_seg dksX11_comes_12 24 rfl rfl
theorem dksX11_comes_14 : cX11_comes.data.toList.drop 345 = dktX11_comes_14 := dk_seg dksX11_comes_13 24 rfl rfl
theorem dX11_comes_0 : decode cX11_comes 0 = .ok (.aload_n 0, 1) := dk_42 (dk_at dksX11_comes_0 0 rfl rfl)
theorem dX11_comes_1 : decode cX11_comes 1 = .ok (.getfield 27, 3) := dk_180 0 27 (dk_at dksX11_comes_0 1 rfl rfl)
theorem dX11_comes_4 : decode cX11_comes 4 = .ok (.iload_n 1, 1) := dk_27 (dk_at dksX11_comes_0 4 rfl rfl)
theorem dX11_comes_5 : decode cX11_comes 5 = .ok (.iaload, 1) := dk_46 (dk_at dksX11_comes_0 5 rfl rfl)
theorem dX11_comes_6 : decode cX11_comes 6 = .ok (.istore_n 2, 1) := dk_61 (dk_at dksX11_comes_0 6 rfl rfl)
theorem dX11_comes_7 : decode cX11_comes 7 = .ok (.aload_n 0, 1) := dk_42 (dk_at dksX11_comes_0 7 rfl rfl)
theorem dX11_comes_8 : decode cX11_comes 8 = .ok (.getfield 20, 3) := dk_180 0 20 (dk_at dksX11_comes_0 8 rfl rfl)
theorem dX11_comes_11 : decode cX11_comes 11 = .ok (.iload_n 1, 1) := dk_27 (dk_at dksX11_comes_0 11 rfl rfl)
theorem dX11_comes_12 : decode cX11_comes 12 = .ok (.iaload, 1) := dk_46 (dk_at dksX11_comes_0 12 rfl rfl)
theorem dX11_comes_13 : decode cX11_comes 13 = .ok (.tableswitch 281 0 7 #[47, 90, 123, 130, 136, 143, 173, 216], 47) := by decide +kernel
theorem dX11_comes_60 : decode cX11_comes 60 = .ok (.aload_n 0, 1) := dk_42 (dk_at dksX11_comes_2 0 rfl rfl)
theorem dX11_comes_61 : decode cX11_comes 61 = .ok (.iload_n 1, 1) := dk_27 (dk_at dksX11_comes_2 1 rfl rfl)
theorem dX11_comes_62 : decode cX11_comes 62 = .ok (.iconst 1, 1) := dk_4 (dk_at dksX11_comes_2 2 rfl rfl)
theorem dX11_comes_63 : decode cX11_comes 63 = .ok (.isub, 1) := dk_100 (dk_at dksX11_comes_2 3 rfl rfl)
theorem dX11_comes_64 : decode cX11_comes 64 = .ok (.invokevirtual 276, 3) := dk_182 1 20 (dk_at dksX11_comes_2 4 rfl rfl)
theorem dX11_comes_67 : decode cX11_comes 67 = .ok (.istore_n 3, 1) := dk_62 (dk_at dksX11_comes_2 7 rfl rfl)
theorem dX11_comes_68 : decode cX11_comes 68 = .ok (.iload_n 3, 1) := dk_29 (dk_at dksX11_comes_2 8 rfl rfl)
theorem dX11_comes_69 : decode cX11_comes 69 = .ok (.ifCond .eq 32, 3) := dk_153 0 32 (dk_at dksX11_comes_2 9 rfl rfl)
theorem dX11_comes_72 : decode cX11_comes 72 = .ok (.aload_n 0, 1) := dk_42 (dk_at dksX11_comes_2 12 rfl rfl)
theorem dX11_comes_73 : decode cX11_comes 73 = .ok (.aload_n 0, 1) := dk_42 (dk_at dksX11_comes_2 13 rfl rfl)
theorem dX11_comes_74 : decode cX11_comes 74 = .ok (.getfield 24, 3) := dk_180 0 24 (dk_at dksX11_comes_2 14 rfl rfl)
theorem dX11_comes_77 : decode cX11_comes 77 = .ok (.iload_n 1, 1) := dk_27 (dk_at dksX11_comes_2 17 rfl rfl)
theorem dX11_comes_78 : decode cX11_comes 78 = .ok (.iaload, 1) := dk_46 (dk_at dksX11_comes_2 18 rfl rfl)
theorem dX11_comes_79 : decode cX11_comes 79 = .ok (.iload_n 2, 1) := dk_28 (dk_at dksX11_comes_2 19 rfl rfl)
theorem dX11_comes_80 : decode cX11_comes 80 = .ok (.aload_n 0, 1) := dk_42 (dk_at dksX11_comes_2 20 rfl rfl)
theorem dX11_comes_81 : decode cX11_comes 81 = .ok (.getfield 246, 3) := dk_180 0 246 (dk_at dksX11_comes_2 21 rfl rfl)
theorem dX11_comes_84 : decode cX11_comes 84 = .ok (.invokevirtual 279, 3) := dk_182 1 23 (dk_at dksX11_comes_3 0 rfl rfl)
theorem dX11_comes_87 : decode cX11_comes 87 = .ok (.ifCond .ne 14, 3) := dk_154 0 14 (dk_at dksX11_comes_3 3 rfl rfl)
theorem dX11_comes_90 : decode cX11_comes 90 = .ok (.aload_n 0, 1) := dk_42 (dk_at dksX11_comes_3 6 rfl rfl)
theorem dX11_comes_91 : decode cX11_comes 91 = .ok (.iload_n 1, 1) := dk_27 (dk_at dksX11_comes_3 7 rfl rfl)
theorem dX11_comes_92 : decode cX11_comes 92 = .ok (.iconst 1, 1) := dk_4 (dk_at dksX11_comes_3 8 rfl rfl)
theorem dX11_comes_93 : decode cX11_comes 93 = .ok (.isub, 1) := dk_100 (dk_at dksX11_comes_3 9 rfl rfl)
theorem dX11_comes_94 : decode cX11_comes 94 = .ok (.invokevirtual 276, 3) := dk_182 1 20 (dk_at dksX11_comes_3 10 rfl rfl)
theorem dX11_comes_97 : decode cX11_comes 97 = .ok (.istore_n 3, 1) := dk_62 (dk_at dksX11_comes_3 13 rfl rfl)
theorem dX11_comes_98 : decode cX11_comes 98 = .ok (.goto (-30), 3) := dk_167 255 226 (dk_at dksX11_comes_3 14 rfl rfl)
theorem dX11_comes_101 : decode cX11_comes 101 = .ok (.iload_n 3, 1) := dk_29 (dk_at dksX11_comes_3 17 rfl rfl)
theorem dX11_comes_102 : decode cX11_comes 102 = .ok (.ireturn, 1) := dk_172 (dk_at dksX11_comes_3 18 rfl rfl)
theorem dX11_comes_103 : decode cX11_comes 103 = .ok (.aload_n 0, 1) := dk_42 (dk_at dksX11_comes_3 19 rfl rfl)
theorem dX11_comes_104 : decode cX11_comes 104 = .ok (.iload_n 1, 1) := dk_27 (dk_at dksX11_comes_3 20 rfl rfl)
theorem dX11_comes_105 : decode cX11_comes 105 = .ok (.iconst 1, 1) := dk_4 (dk_at dksX11_comes_3 21 rfl rfl)
theorem dX11_comes_106 : decode cX11_comes 106 = .ok (.isub, 1) := dk_100 (dk_at dksX11_comes_3 22 rfl rfl)
theorem dX11_comes_107 : decode cX11_comes 107 = .ok (.invokevirtual 276, 3) := dk_182 1 20 (dk_at dksX11_comes_4 0 rfl rfl)
theorem dX11_comes_110 : decode cX11_comes 110 = .ok (.ifCond .ne 5, 3) := dk_154 0 5 (dk_at dksX11_comes_4 3 rfl rfl)
theorem dX11_comes_113 : decode cX11_comes 113 = .ok (.iconst 0, 1) := dk_3 (dk_at dksX11_comes_4 6 rfl rfl)
theorem dX11_comes_114 : decode cX11_comes 114 = .ok (.ireturn, 1) := dk_172 (dk_at dksX11_comes_4 7 rfl rfl)
theorem dX11_comes_115 : decode cX11_comes 115 = .ok (.aload_n 0, 1) := dk_42 (dk_at dksX11_comes_4 8 rfl rfl)
theorem dX11_comes_116 : decode cX11_comes 116 = .ok (.aload_n 0, 1) := dk_42 (dk_at dksX11_comes_4 9 rfl rfl)
theorem dX11_comes_117 : decode cX11_comes 117 = .ok (.aload_n 0, 1) := dk_42 (dk_at dksX11_comes_4 10 rfl rfl)
theorem dX11_comes_118 : decode cX11_comes 118 = .ok (.getfield 24, 3) := dk_180 0 24 (dk_at dksX11_comes_4 11 rfl rfl)
theorem dX11_comes_121 : decode cX11_comes 121 = .ok (.iload_n 1, 1) := dk_27 (dk_at dksX11_comes_4 14 rfl rfl)
theorem dX11_comes_122 : decode cX11_comes 122 = .ok (.iaload, 1) := dk_46 (dk_at dksX11_comes_4 15 rfl rfl)
theorem dX11_comes_123 : decode cX11_comes 123 = .ok (.iload_n 2, 1) := dk_28 (dk_at dksX11_comes_4 16 rfl rfl)
theorem dX11_comes_124 : decode cX11_comes 124 = .ok (.aload_n 0, 1) := dk_42 (dk_at dksX11_comes_4 17 rfl rfl)
theorem dX11_comes_125 : decode cX11_comes 125 = .ok (.getfield 246, 3) := dk_180 0 246 (dk_at dksX11_comes_4 18 rfl rfl)
theorem dX11_comes_128 : decode cX11_comes 128 = .ok (.invokevirtual 256, 3) := dk_182 1 0 (dk_at dksX11_comes_4 21 rfl rfl)
theorem dX11_comes_131 : decode cX11_comes 131 = .ok (.putfield 246, 3) := dk_181 0 246 (dk_at dksX11_comes_5 0 rfl rfl)
theorem dX11_comes_134 : decode cX11_comes 134 = .ok (.iconst 1, 1) := dk_4 (dk_at dksX11_comes_5 3 rfl rfl)
theorem dX11_comes_135 : decode cX11_comes 135 = .ok (.ireturn, 1) := dk_172 (dk_at dksX11_comes_5 4 rfl rfl)
theorem dX11_comes_136 : decode cX11_comes 136 = .ok (.aload_n 0, 1) := dk_42 (dk_at dksX11_comes_5 5 rfl rfl)
theorem dX11_comes_137 : decode cX11_comes 137 = .ok (.iload_n 1, 1) := dk_27 (dk_at dksX11_comes_5 6 rfl rfl)
theorem dX11_comes_138 : decode cX11_comes 138 = .ok (.iload_n 2, 1) := dk_28 (dk_at dksX11_comes_5 7 rfl rfl)
theorem dX11_comes_139 : decode cX11_comes 139 = .ok (.invokevirtual 283, 3) := dk_182 1 27 (dk_at dksX11_comes_5 8 rfl rfl)
theorem dX11_comes_142 : decode cX11_comes 142 = .ok (.ireturn, 1) := dk_172 (dk_at dksX11_comes_5 11 rfl rfl)
theorem dX11_comes_143 : decode cX11_comes 143 = .ok (.aload_n 0, 1) := dk_42 (dk_at dksX11_comes_5 12 rfl rfl)
theorem dX11_comes_144 : decode cX11_comes 144 = .ok (.iload_n 1, 1) := dk_27 (dk_at dksX11_comes_5 13 rfl rfl)
theorem dX11_comes_145 : decode cX11_comes 145 = .ok (.invokevirtual 286, 3) := dk_182 1 30 (dk_at dksX11_comes_5 14 rfl rfl)
theorem dX11_comes_148 : decode cX11_comes 148 = .ok (.ireturn, 1) := dk_172 (dk_at dksX11_comes_5 17 rfl rfl)
theorem dX11_comes_149 : decode cX11_comes 149 = .ok (.aload_n 0, 1) := dk_42 (dk_at dksX11_comes_5 18 rfl rfl)
theorem dX11_comes_150 : decode cX11_comes 150 = .ok (.iload_n 1, 1) := dk_27 (dk_at dksX11_comes_5 19 rfl rfl)
theorem dX11_comes_151 : decode cX11_comes 151 = .ok (.iload_n 2, 1) := dk_28 (dk_at dksX11_comes_5 20 rfl rfl)
theorem dX11_comes_152 : decode cX11_comes 152 = .ok (.invokevirtual 288, 3) := dk_182 1 32 (dk_at dksX11_comes_5 21 rfl rfl)
theorem dX11_comes_155 : decode cX11_comes 155 = .ok (.ireturn, 1) := dk_172 (dk_at dksX11_comes_6 0 rfl rfl)
theorem dX11_comes_156 : decode cX11_comes 156 = .ok (.aload_n 0, 1) := dk_42 (dk_at dksX11_comes_6 1 rfl rfl)
theorem dX11_comes_157 : decode cX11_comes 157 = .ok (.getfield 30, 3) := dk_180 0 30 (dk_at dksX11_comes_6 2 rfl rfl)
theorem dX11_comes_160 : decode cX11_comes 160 = .ok (.iload_n 1, 1) := dk_27 (dk_at dksX11_comes_6 5 rfl rfl)
theorem dX11_comes_161 : decode cX11_comes 161 = .ok (.iaload, 1) := dk_46 (dk_at dksX11_comes_6 6 rfl rfl)
theorem dX11_comes_162 : decode cX11_comes 162 = .ok (.iload_n 2, 1) := dk_28 (dk_at dksX11_comes_6 7 rfl rfl)
theorem dX11_comes_163 : decode cX11_comes 163 = .ok (.if_icmp .ne 5, 3) := dk_160 0 5 (dk_at dksX11_comes_6 8 rfl rfl)
theorem dX11_comes_166 : decode cX11_comes 166 = .ok (.iconst 0, 1) := dk_3 (dk_at dksX11_comes_6 11 rfl rfl)
theorem dX11_comes_167 : decode cX11_comes 167 = .ok (.ireturn, 1) := dk_172 (dk_at dksX11_comes_6 12 rfl rfl)
theorem dX11_comes_168 : decode cX11_comes 168 = .ok (.aload_n 0, 1) := dk_42 (dk_at dksX11_comes_6 13 rfl rfl)
theorem dX11_comes_169 : decode cX11_comes 169 = .ok (.getfield 30, 3) := dk_180 0 30 (dk_at dksX11_comes_6 14 rfl rfl)
theorem dX11_comes_172 : decode cX11_comes 172 = .ok (.iload_n 1, 1) := dk_27 (dk_at dksX11_comes_6 17 rfl rfl)
theorem dX11_comes_173 : decode cX11_comes 173 = .ok (.dup2, 1) := dk_92 (dk_at dksX11_comes_6 18 rfl rfl)
theorem dX11_comes_174 : decode cX11_comes 174 = .ok (.iaload, 1) := dk_46 (dk_at dksX11_comes_6 19 rfl rfl)
theorem dX11_comes_175 : decode cX11_comes 175 = .ok (.iconst 1, 1) := dk_4 (dk_at dksX11_comes_6 20 rfl rfl)
theorem dX11_comes_176 : decode cX11_comes 176 = .ok (.iadd, 1) := dk_96 (dk_at dksX11_comes_6 21 rfl rfl)
theorem dX11_comes_177 : decode cX11_comes 177 = .ok (.iastore, 1) := dk_79 (dk_at dksX11_comes_6 22 rfl rfl)
theorem dX11_comes_178 : decode cX11_comes 178 = .ok (.aload_n 0, 1) := dk_42 (dk_at dksX11_comes_6 23 rfl rfl)
theorem dX11_comes_179 : decode cX11_comes 179 = .ok (.iload_n 1, 1) := dk_27 (dk_at dksX11_comes_7 0 rfl rfl)
theorem dX11_comes_180 : decode cX11_comes 180 = .ok (.iconst 1, 1) := dk_4 (dk_at dksX11_comes_7 1 rfl rfl)
theorem dX11_comes_181 : decode cX11_comes 181 = .ok (.isub, 1) := dk_100 (dk_at dksX11_comes_7 2 rfl rfl)
theorem dX11_comes_182 : decode cX11_comes 182 = .ok (.invokevirtual 276, 3) := dk_182 1 20 (dk_at dksX11_comes_7 3 rfl rfl)
theorem dX11_comes_185 : decode cX11_comes 185 = .ok (.ireturn, 1) := dk_172 (dk_at dksX11_comes_7 6 rfl rfl)
theorem dX11_comes_186 : decode cX11_comes 186 = .ok (.aload_n 0, 1) := dk_42 (dk_at dksX11_comes_7 7 rfl rfl)
theorem dX11_comes_187 : decode cX11_comes 187 = .ok (.getfield 30, 3) := dk_180 0 30 (dk_at dksX11_comes_7 8 rfl rfl)
theorem dX11_comes_190 : decode cX11_comes 190 = .ok (.iload_n 1, 1) := dk_27 (dk_at dksX11_comes_7 11 rfl rfl)
theorem dX11_comes_191 : decode cX11_comes 191 = .ok (.iaload, 1) := dk_46 (dk_at dksX11_comes_7 12 rfl rfl)
theorem dX11_comes_192 : decode cX11_comes 192 = .ok (.iload_n 2, 1) := dk_28 (dk_at dksX11_comes_7 13 rfl rfl)
theorem dX11_comes_193 : decode cX11_comes 193 = .ok (.if_icmp .ge 28, 3) := dk_162 0 28 (dk_at dksX11_comes_7 14 rfl rfl)
theorem dX11_comes_196 : decode cX11_comes 196 = .ok (.aload_n 0, 1) := dk_42 (dk_at dksX11_comes_7 17 rfl rfl)
theorem dX11_comes_197 : decode cX11_comes 197 = .ok (.iload_n 1, 1) := dk_27 (dk_at dksX11_comes_7 18 rfl rfl)
theorem dX11_comes_198 : decode cX11_comes 198 = .ok (.iconst 1, 1) := dk_4 (dk_at dksX11_comes_7 19 rfl rfl)
theorem dX11_comes_199 : decode cX11_comes 199 = .ok (.isub, 1) := dk_100 (dk_at dksX11_comes_7 20 rfl rfl)
theorem dX11_comes_200 : decode cX11_comes 200 = .ok (.invokevirtual 276, 3) := dk_182 1 20 (dk_at dksX11_comes_7 21 rfl rfl)
theorem dX11_comes_203 : decode cX11_comes 203 = .ok (.ifCond .ne 5, 3) := dk_154 0 5 (dk_at dksX11_comes_8 0 rfl rfl)
theorem dX11_comes_206 : decode cX11_comes 206 = .ok (.iconst 0, 1) := dk_3 (dk_at dksX11_comes_8 3 rfl rfl)
theorem dX11_comes_207 : decode cX11_comes 207 = .ok (.ireturn, 1) := dk_172 (dk_at dksX11_comes_8 4 rfl rfl)
theorem dX11_comes_208 : decode cX11_comes 208 = .ok (.aload_n 0, 1) := dk_42 (dk_at dksX11_comes_8 5 rfl rfl)
theorem dX11_comes_209 : decode cX11_comes 209 = .ok (.getfield 30, 3) := dk_180 0 30 (dk_at dksX11_comes_8 6 rfl rfl)
theorem dX11_comes_212 : decode cX11_comes 212 = .ok (.iload_n 1, 1) := dk_27 (dk_at dksX11_comes_8 9 rfl rfl)
theorem dX11_comes_213 : decode cX11_comes 213 = .ok (.dup2, 1) := dk_92 (dk_at dksX11_comes_8 10 rfl rfl)
theorem dX11_comes_214 : decode cX11_comes 214 = .ok (.iaload, 1) := dk_46 (dk_at dksX11_comes_8 11 rfl rfl)
theorem dX11_comes_215 : decode cX11_comes 215 = .ok (.iconst 1, 1) := dk_4 (dk_at dksX11_comes_8 12 rfl rfl)
theorem dX11_comes_216 : decode cX11_comes 216 = .ok (.iadd, 1) := dk_96 (dk_at dksX11_comes_8 13 rfl rfl)
theorem dX11_comes_217 : decode cX11_comes 217 = .ok (.iastore, 1) := dk_79 (dk_at dksX11_comes_8 14 rfl rfl)
theorem dX11_comes_218 : decode cX11_comes 218 = .ok (.goto (-32), 3) := dk_167 255 224 (dk_at dksX11_comes_8 15 rfl rfl)
theorem dX11_comes_221 : decode cX11_comes 221 = .ok (.aload_n 0, 1) := dk_42 (dk_at dksX11_comes_8 18 rfl rfl)
theorem dX11_comes_222 : decode cX11_comes 222 = .ok (.iload_n 1, 1) := dk_27 (dk_at dksX11_comes_8 19 rfl rfl)
theorem dX11_comes_223 : decode cX11_comes 223 = .ok (.iconst 1, 1) := dk_4 (dk_at dksX11_comes_8 20 rfl rfl)
theorem dX11_comes_224 : decode cX11_comes 224 = .ok (.isub, 1) := dk_100 (dk_at dksX11_comes_8 21 rfl rfl)
theorem dX11_comes_225 : decode cX11_comes 225 = .ok (.invokevirtual 276, 3) := dk_182 1 20 (dk_at dksX11_comes_9 0 rfl rfl)
theorem dX11_comes_228 : decode cX11_comes 228 = .ok (.ireturn, 1) := dk_172 (dk_at dksX11_comes_9 3 rfl rfl)
theorem dX11_comes_229 : decode cX11_comes 229 = .ok (.aload_n 0, 1) := dk_42 (dk_at dksX11_comes_9 4 rfl rfl)
theorem dX11_comes_230 : decode cX11_comes 230 = .ok (.getfield 33, 3) := dk_180 0 33 (dk_at dksX11_comes_9 5 rfl rfl)
theorem dX11_comes_233 : decode cX11_comes 233 = .ok (.iload_n 1, 1) := dk_27 (dk_at dksX11_comes_9 8 rfl rfl)
theorem dX11_comes_234 : decode cX11_comes 234 = .ok (.baload, 1) := dk_51 (dk_at dksX11_comes_9 9 rfl rfl)
theorem dX11_comes_235 : decode cX11_comes 235 = .ok (.ifCond .ne 13, 3) := dk_154 0 13 (dk_at dksX11_comes_9 10 rfl rfl)
theorem dX11_comes_238 : decode cX11_comes 238 = .ok (.aload_n 0, 1) := dk_42 (dk_at dksX11_comes_9 13 rfl rfl)
theorem dX11_comes_239 : decode cX11_comes 239 = .ok (.iload_n 1, 1) := dk_27 (dk_at dksX11_comes_9 14 rfl rfl)
theorem dX11_comes_240 : decode cX11_comes 240 = .ok (.iconst 1, 1) := dk_4 (dk_at dksX11_comes_9 15 rfl rfl)
theorem dX11_comes_241 : decode cX11_comes 241 = .ok (.isub, 1) := dk_100 (dk_at dksX11_comes_9 16 rfl rfl)
theorem dX11_comes_242 : decode cX11_comes 242 = .ok (.invokevirtual 276, 3) := dk_182 1 20 (dk_at dksX11_comes_9 17 rfl rfl)
theorem dX11_comes_245 : decode cX11_comes 245 = .ok (.ifCond .ne 5, 3) := dk_154 0 5 (dk_at dksX11_comes_9 20 rfl rfl)
theorem dX11_comes_248 : decode cX11_comes 248 = .ok (.iconst 0, 1) := dk_3 (dk_at dksX11_comes_9 23 rfl rfl)
theorem dX11_comes_249 : decode cX11_comes 249 = .ok (.ireturn, 1) := dk_172 (dk_at dksX11_comes_10 0 rfl rfl)
theorem dX11_comes_250 : decode cX11_comes 250 = .ok (.aload_n 0, 1) := dk_42 (dk_at dksX11_comes_10 1 rfl rfl)
theorem dX11_comes_251 : decode cX11_comes 251 = .ok (.getfield 33, 3) := dk_180 0 33 (dk_at dksX11_comes_10 2 rfl rfl)
theorem dX11_comes_254 : decode cX11_comes 254 = .ok (.iload_n 1, 1) := dk_27 (dk_at dksX11_comes_10 5 rfl rfl)
theorem dX11_comes_255 : decode cX11_comes 255 = .ok (.aload_n 0, 1) := dk_42 (dk_at dksX11_comes_10 6 rfl rfl)
theorem dX11_comes_256 : decode cX11_comes 256 = .ok (.aload_n 0, 1) := dk_42 (dk_at dksX11_comes_10 7 rfl rfl)
theorem dX11_comes_257 : decode cX11_comes 257 = .ok (.getfield 24, 3) := dk_180 0 24 (dk_at dksX11_comes_10 8 rfl rfl)
theorem dX11_comes_260 : decode cX11_comes 260 = .ok (.iload_n 1, 1) := dk_27 (dk_at dksX11_comes_10 11 rfl rfl)
theorem dX11_comes_261 : decode cX11_comes 261 = .ok (.iaload, 1) := dk_46 (dk_at dksX11_comes_10 12 rfl rfl)
theorem dX11_comes_262 : decode cX11_comes 262 = .ok (.iload_n 2, 1) := dk_28 (dk_at dksX11_comes_10 13 rfl rfl)
theorem dX11_comes_263 : decode cX11_comes 263 = .ok (.aload_n 0, 1) := dk_42 (dk_at dksX11_comes_10 14 rfl rfl)
theorem dX11_comes_264 : decode cX11_comes 264 = .ok (.getfield 246, 3) := dk_180 0 246 (dk_at dksX11_comes_10 15 rfl rfl)
theorem dX11_comes_267 : decode cX11_comes 267 = .ok (.invokevirtual 279, 3) := dk_182 1 23 (dk_at dksX11_comes_10 18 rfl rfl)
theorem dX11_comes_270 : decode cX11_comes 270 = .ok (.ifCond .ne 7, 3) := dk_154 0 7 (dk_at dksX11_comes_10 21 rfl rfl)
theorem dX11_comes_273 : decode cX11_comes 273 = .ok (.iconst 1, 1) := dk_4 (dk_at dksX11_comes_11 0 rfl rfl)
theorem dX11_comes_274 : decode cX11_comes 274 = .ok (.goto 4, 3) := dk_167 0 4 (dk_at dksX11_comes_11 1 rfl rfl)
theorem dX11_comes_277 : decode cX11_comes 277 = .ok (.iconst 0, 1) := dk_3 (dk_at dksX11_comes_11 4 rfl rfl)
theorem dX11_comes_278 : decode cX11_comes 278 = .ok (.bastore, 1) := dk_84 (dk_at dksX11_comes_11 5 rfl rfl)
theorem dX11_comes_279 : decode cX11_comes 279 = .ok (.aload_n 0, 1) := dk_42 (dk_at dksX11_comes_11 6 rfl rfl)
theorem dX11_comes_280 : decode cX11_comes 280 = .ok (.getfield 33, 3) := dk_180 0 33 (dk_at dksX11_comes_11 7 rfl rfl)
theorem dX11_comes_283 : decode cX11_comes 283 = .ok (.iload_n 1, 1) := dk_27 (dk_at dksX11_comes_11 10 rfl rfl)
theorem dX11_comes_284 : decode cX11_comes 284 = .ok (.baload, 1) := dk_51 (dk_at dksX11_comes_11 11 rfl rfl)
theorem dX11_comes_285 : decode cX11_comes 285 = .ok (.ifCond .ne 7, 3) := dk_154 0 7 (dk_at dksX11_comes_11 12 rfl rfl)
theorem dX11_comes_288 : decode cX11_comes 288 = .ok (.iconst 1, 1) := dk_4 (dk_at dksX11_comes_11 15 rfl rfl)
theorem dX11_comes_289 : decode cX11_comes 289 = .ok (.goto 4, 3) := dk_167 0 4 (dk_at dksX11_comes_11 16 rfl rfl)
theorem dX11_comes_292 : decode cX11_comes 292 = .ok (.iconst 0, 1) := dk_3 (dk_at dksX11_comes_11 19 rfl rfl)
theorem dX11_comes_293 : decode cX11_comes 293 = .ok (.ireturn, 1) := dk_172 (dk_at dksX11_comes_11 20 rfl rfl)
theorem dX11_comes_294 : decode cX11_comes 294 = .ok (.aload_n 0, 1) := dk_42 (dk_at dksX11_comes_11 21 rfl rfl)
theorem dX11_comes_295 : decode cX11_comes 295 = .ok (.iload_n 1, 1) := dk_27 (dk_at dksX11_comes_11 22 rfl rfl)
theorem dX11_comes_296 : decode cX11_comes 296 = .ok (.iconst 1, 1) := dk_4 (dk_at dksX11_comes_11 23 rfl rfl)
theorem dX11_comes_297 : decode cX11_comes 297 = .ok (.isub, 1) := dk_100 (dk_at dksX11_comes_12 0 rfl rfl)
theorem dX11_comes_298 : decode cX11_comes 298 = .ok (.invokevirtual 276, 3) := dk_182 1 20 (dk_at dksX11_comes_12 1 rfl rfl)
theorem dX11_comes_301 : decode cX11_comes 301 = .ok (.ifCond .ne 5, 3) := dk_154 0 5 (dk_at dksX11_comes_12 4 rfl rfl)
theorem dX11_comes_304 : decode cX11_comes 304 = .ok (.iconst 0, 1) := dk_3 (dk_at dksX11_comes_12 7 rfl rfl)
theorem dX11_comes_305 : decode cX11_comes 305 = .ok (.ireturn, 1) := dk_172 (dk_at dksX11_comes_12 8 rfl rfl)
theorem dX11_comes_306 : decode cX11_comes 306 = .ok (.aload_n 0, 1) := dk_42 (dk_at dksX11_comes_12 9 rfl rfl)
theorem dX11_comes_307 : decode cX11_comes 307 = .ok (.getfield 33, 3) := dk_180 0 33 (dk_at dksX11_comes_12 10 rfl rfl)
theorem dX11_comes_310 : decode cX11_comes 310 = .ok (.iload_n 1, 1) := dk_27 (dk_at dksX11_comes_12 13 rfl rfl)
theorem dX11_comes_311 : decode cX11_comes 311 = .ok (.baload, 1) := dk_51 (dk_at dksX11_comes_12 14 rfl rfl)
theorem dX11_comes_312 : decode cX11_comes 312 = .ok (.ifCond .ne 33, 3) := dk_154 0 33 (dk_at dksX11_comes_12 15 rfl rfl)
theorem dX11_comes_315 : decode cX11_comes 315 = .ok (.aload_n 0, 1) := dk_42 (dk_at dksX11_comes_12 18 rfl rfl)
theorem dX11_comes_316 : decode cX11_comes 316 = .ok (.aload_n 0, 1) := dk_42 (dk_at dksX11_comes_12 19 rfl rfl)
theorem dX11_comes_317 : decode cX11_comes 317 = .ok (.getfield 24, 3) := dk_180 0 24 (dk_at dksX11_comes_12 20 rfl rfl)
theorem dX11_comes_320 : decode cX11_comes 320 = .ok (.iload_n 1, 1) := dk_27 (dk_at dksX11_comes_12 23 rfl rfl)
theorem dX11_comes_321 : decode cX11_comes 321 = .ok (.iaload, 1) := dk_46 (dk_at dksX11_comes_13 0 rfl rfl)
theorem dX11_comes_322 : decode cX11_comes 322 = .ok (.iload_n 2, 1) := dk_28 (dk_at dksX11_comes_13 1 rfl rfl)
theorem dX11_comes_323 : decode cX11_comes 323 = .ok (.aload_n 0, 1) := dk_42 (dk_at dksX11_comes_13 2 rfl rfl)
theorem dX11_comes_324 : decode cX11_comes 324 = .ok (.getfield 246, 3) := dk_180 0 246 (dk_at dksX11_comes_13 3 rfl rfl)
theorem dX11_comes_327 : decode cX11_comes 327 = .ok (.invokevirtual 279, 3) := dk_182 1 23 (dk_at dksX11_comes_13 6 rfl rfl)
theorem dX11_comes_330 : decode cX11_comes 330 = .ok (.ifCond .ne 15, 3) := dk_154 0 15 (dk_at dksX11_comes_13 9 rfl rfl)
theorem dX11_comes_333 : decode cX11_comes 333 = .ok (.aload_n 0, 1) := dk_42 (dk_at dksX11_comes_13 12 rfl rfl)
theorem dX11_comes_334 : decode cX11_comes 334 = .ok (.iload_n 1, 1) := dk_27 (dk_at dksX11_comes_13 13 rfl rfl)
theorem dX11_comes_335 : decode cX11_comes 335 = .ok (.iconst 1, 1) := dk_4 (dk_at dksX11_comes_13 14 rfl rfl)
theorem dX11_comes_336 : decode cX11_comes 336 = .ok (.isub, 1) := dk_100 (dk_at dksX11_comes_13 15 rfl rfl)
theorem dX11_comes_337 : decode cX11_comes 337 = .ok (.invokevirtual 276, 3) := dk_182 1 20 (dk_at dksX11_comes_13 16 rfl rfl)
theorem dX11_comes_340 : decode cX11_comes 340 = .ok (.ifCond .ne (-34), 3) := dk_154 255 222 (dk_at dksX11_comes_13 19 rfl rfl)
theorem dX11_comes_343 : decode cX11_comes 343 = .ok (.iconst 0, 1) := dk_3 (dk_at dksX11_comes_13 22 rfl rfl)
theorem dX11_comes_344 : decode cX11_comes 344 = .ok (.ireturn, 1) := dk_172 (dk_at dksX11_comes_13 23 rfl rfl)
theorem dX11_comes_345 : decode cX11_comes 345 = .ok (.aload_n 0, 1) := dk_42 (dk_at dksX11_comes_14 0 rfl rfl)
theorem dX11_comes_346 : decode cX11_comes 346 = .ok (.getfield 33, 3) := dk_180 0 33 (dk_at dksX11_comes_14 1 rfl rfl)
theorem dX11_comes_349 : decode cX11_comes 349 = .ok (.iload_n 1, 1) := dk_27 (dk_at dksX11_comes_14 4 rfl rfl)
theorem dX11_comes_350 : decode cX11_comes 350 = .ok (.iconst 1, 1) := dk_4 (dk_at dksX11_comes_14 5 rfl rfl)
theorem dX11_comes_351 : decode cX11_comes 351 = .ok (.bastore, 1) := dk_84 (dk_at dksX11_comes_14 6 rfl rfl)
theorem dX11_comes_352 : decode cX11_comes 352 = .ok (.iconst 1, 1) := dk_4 (dk_at dksX11_comes_14 7 rfl rfl)
theorem dX11_comes_353 : decode cX11_comes 353 = .ok (.ireturn, 1) := dk_172 (dk_at dksX11_comes_14 8 rfl rfl)
abbrev cX11_test : ByteArray := prog_29_method_11_code
def yX11_test : MethodName := ⟨RX11, "test", "(III)Z"⟩
def dkwX11_test_5 : List UInt8 := [154, 0, 7, 4, 167, 0, 4, 3, 172]
abbrev dktX11_test_5 : List UInt8 := dkwX11_test_5 ++ []
def dkwX11_test_4 : List UInt8 := [160, 0, 7, 4, 167, 0, 4, 3, 172, 28, 153, 0, 7, 4, 167, 0, 4, 3, 184, 0, 232, 29, 28, 112]
abbrev dktX11_test_4 : List UInt8 := dkwX11_test_4 ++ dktX11_test_5
def dkwX11_test_3 : List UInt8 := [29, 28, 164, 0, 7, 4, 167, 0, 4, 3, 172, 29, 28, 162, 0, 7, 4, 167, 0, 4, 3, 172, 29, 28]
abbrev dktX11_test_3 : List UInt8 := dkwX11_test_3 ++ dktX11_test_4
def dkwX11_test_2 : List UInt8 := [29, 5, 112, 154, 0, 7, 4, 167, 0, 4, 3, 172, 29, 5, 112, 153, 0, 7, 4, 167, 0, 4, 3, 172]
abbrev dktX11_test_2 : List UInt8 := dkwX11_test_2 ++ dktX11_test_3
def dkwX11_test_1 : List UInt8 := [170, 0, 0, 0, 90, 0, 0, 0, 0, 0, 0, 0, 4, 0, 0, 0, 33, 0, 0, 0, 45, 0, 0, 0, 57, 0, 0, 0, 68, 0, 0, 0, 79]
abbrev dktX11_test_1 : List UInt8 := dkwX11_test_1 ++ dktX11_test_2
def dkwX11_test_0 : List UInt8 := [42, 89, 180, 0, 213, 4, 96, 181, 0, 213, 27]
abbrev dktX11_test_0 : List UInt8 := dkwX11_test_0 ++ dktX11_test_1
theorem dksX11_test_0 : cX11_test.data.toList.drop 0 = dktX11_test_0 := by decide +kernel
theorem dksX11_test_1 : cX11_test.data.toList.drop 11 = dktX11_test_1 := dk_seg dksX11_test_0 11 rfl rfl
theorem dksX11_test_2 : cX11_test.data.toList.drop 44 = dktX11_test_2 := dk_seg dksX11_test_1 33 rfl rfl
theorem dksX11_test_3 : cX11_test.data.toList.drop 68 = dktX11_test_3 := dk_seg dksX11_test_2 24 rfl rfl
theorem dksX11_test_4 : cX11_test.data.toList.drop 92 = dktX11_test_4 := dk_seg dksX11_test_3 24 rfl rfl
theorem dksX11_test_5 : cX11_test.data.toList.drop 116 = dktX11_test_5 := dk_seg dksX11_test_4 24 rfl rfl
theorem dX11_test_0 : decode cX11_test 0 = .ok (.aload_n 0, 1) := dk_42 (dk_at dksX11_test_0 0 rfl rfl)
theorem dX11_test_1 : decode cX11_test 1 = .ok (.dup, 1) := dk_89 (dk_at dksX11_test_0 1 rfl rfl)
theorem dX11_test_2 : decode cX11_test 2 = .ok (.getfield 213, 3) := dk_180 0 213 (dk_at dksX11_test_0 2 rfl rfl)
theorem dX11_test_5 : decode cX11_test 5 = .ok (.iconst 1, 1) := dk_4 (dk_at dksX11_test_0 5 rfl rfl)
theorem dX11_test_6 : decode cX11_test 6 = .ok (.iadd, 1) := dk_96 (dk_at dksX11_test_0 6 rfl rfl)
theorem dX11_test_7 : decode cX11_test 7 = .ok (.putfield 213, 3) := dk_181 0 213 (dk_at dksX11_test_0 7 rfl rfl)
theorem dX11_test_10 : decode cX11_test 10 = .ok (.iload_n 1, 1) := dk_27 (dk_at dksX11_test_0 10 rfl rfl)
theorem dX11_test_11 : decode cX11_test 11 = .ok (.tableswitch 90 0 4 #[33, 45, 57, 68, 79], 33) := by decide +kernel
theorem dX11_test_44 : decode cX11_test 44 = .ok (.iload_n 3, 1) := dk_29 (dk_at dksX11_test_2 0 rfl rfl)
theorem dX11_test_45 : decode cX11_test 45 = .ok (.iconst 2, 1) := dk_5 (dk_at dksX11_test_2 1 rfl rfl)
theorem dX11_test_46 : decode cX11_test 46 = .ok (.irem, 1) := dk_112 (dk_at dksX11_test_2 2 rfl rfl)
theorem dX11_test_47 : decode cX11_test 47 = .ok (.ifCond .ne 7, 3) := dk_154 0 7 (dk_at dksX11_test_2 3 rfl rfl)
theorem dX11_test_50 : decode cX11_test 50 = .ok (.iconst 1, 1) := dk_4 (dk_at dksX11_test_2 6 rfl rfl)
theorem dX11_test_51 : decode cX11_test 51 = .ok (.goto 4, 3) := dk_167 0 4 (dk_at dksX11_test_2 7 rfl rfl)
theorem dX11_test_54 : decode cX11_test 54 = .ok (.iconst 0, 1) := dk_3 (dk_at dksX11_test_2 10 rfl rfl)
theorem dX11_test_55 : decode cX11_test 55 = .ok (.ireturn, 1) := dk_172 (dk_at dksX11_test_2 11 rfl rfl)
theorem dX11_test_56 : decode cX11_test 56 = .ok (.iload_n 3, 1) := dk_29 (dk_at dksX11_test_2 12 rfl rfl)
theorem dX11_test_57 : decode cX11_test 57 = .ok (.iconst 2, 1) := dk_5 (dk_at dksX11_test_2 13 rfl rfl)
theorem dX11_test_58 : decode cX11_test 58 = .ok (.irem, 1) := dk_112 (dk_at dksX11_test_2 14 rfl rfl)
theorem dX11_test_59 : decode cX11_test 59 = .ok (.ifCond .eq 7, 3) := dk_153 0 7 (dk_at dksX11_test_2 15 rfl rfl)
theorem dX11_test_62 : decode cX11_test 62 = .ok (.iconst 1, 1) := dk_4 (dk_at dksX11_test_2 18 rfl rfl)
theorem dX11_test_63 : decode cX11_test 63 = .ok (.goto 4, 3) := dk_167 0 4 (dk_at dksX11_test_2 19 rfl rfl)
theorem dX11_test_66 : decode cX11_test 66 = .ok (.iconst 0, 1) := dk_3 (dk_at dksX11_test_2 22 rfl rfl)
theorem dX11_test_67 : decode cX11_test 67 = .ok (.ireturn, 1) := dk_172 (dk_at dksX11_test_2 23 rfl rfl)
theorem dX11_test_68 : decode cX11_test 68 = .ok (.iload_n 3, 1) := dk_29 (dk_at dksX11_test_3 0 rfl rfl)
theorem dX11_test_69 : decode cX11_test 69 = .ok (.iload_n 2, 1) := dk_28 (dk_at dksX11_test_3 1 rfl rfl)
theorem dX11_test_70 : decode cX11_test 70 = .ok (.if_icmp .le 7, 3) := dk_164 0 7 (dk_at dksX11_test_3 2 rfl rfl)
theorem dX11_test_73 : decode cX11_test 73 = .ok (.iconst 1, 1) := dk_4 (dk_at dksX11_test_3 5 rfl rfl)
theorem dX11_test_74 : decode cX11_test 74 = .ok (.goto 4, 3) := dk_167 0 4 (dk_at dksX11_test_3 6 rfl rfl)
theorem dX11_test_77 : decode cX11_test 77 = .ok (.iconst 0, 1) := dk_3 (dk_at dksX11_test_3 9 rfl rfl)
theorem dX11_test_78 : decode cX11_test 78 = .ok (.ireturn, 1) := dk_172 (dk_at dksX11_test_3 10 rfl rfl)
theorem dX11_test_79 : decode cX11_test 79 = .ok (.iload_n 3, 1) := dk_29 (dk_at dksX11_test_3 11 rfl rfl)
theorem dX11_test_80 : decode cX11_test 80 = .ok (.iload_n 2, 1) := dk_28 (dk_at dksX11_test_3 12 rfl rfl)
theorem dX11_test_81 : decode cX11_test 81 = .ok (.if_icmp .ge 7, 3) := dk_162 0 7 (dk_at dksX11_test_3 13 rfl rfl)
theorem dX11_test_84 : decode cX11_test 84 = .ok (.iconst 1, 1) := dk_4 (dk_at dksX11_test_3 16 rfl rfl)
theorem dX11_test_85 : decode cX11_test 85 = .ok (.goto 4, 3) := dk_167 0 4 (dk_at dksX11_test_3 17 rfl rfl)
theorem dX11_test_88 : decode cX11_test 88 = .ok (.iconst 0, 1) := dk_3 (dk_at dksX11_test_3 20 rfl rfl)
theorem dX11_test_89 : decode cX11_test 89 = .ok (.ireturn, 1) := dk_172 (dk_at dksX11_test_3 21 rfl rfl)
theorem dX11_test_90 : decode cX11_test 90 = .ok (.iload_n 3, 1) := dk_29 (dk_at dksX11_test_3 22 rfl rfl)
theorem dX11_test_91 : decode cX11_test 91 = .ok (.iload_n 2, 1) := dk_28 (dk_at dksX11_test_3 23 rfl rfl)
theorem dX11_test_92 : decode cX11_test 92 = .ok (.if_icmp .ne 7, 3) := dk_160 0 7 (dk_at dksX11_test_4 0 rfl rfl)
theorem dX11_test_95 : decode cX11_test 95 = .ok (.iconst 1, 1) := dk_4 (dk_at dksX11_test_4 3 rfl rfl)
theorem dX11_test_96 : decode cX11_test 96 = .ok (.goto 4, 3) := dk_167 0 4 (dk_at dksX11_test_4 4 rfl rfl)
theorem dX11_test_99 : decode cX11_test 99 = .ok (.iconst 0, 1) := dk_3 (dk_at dksX11_test_4 7 rfl rfl)
theorem dX11_test_100 : decode cX11_test 100 = .ok (.ireturn, 1) := dk_172 (dk_at dksX11_test_4 8 rfl rfl)
theorem dX11_test_101 : decode cX11_test 101 = .ok (.iload_n 2, 1) := dk_28 (dk_at dksX11_test_4 9 rfl rfl)
theorem dX11_test_102 : decode cX11_test 102 = .ok (.ifCond .eq 7, 3) := dk_153 0 7 (dk_at dksX11_test_4 10 rfl rfl)
theorem dX11_test_105 : decode cX11_test 105 = .ok (.iconst 1, 1) := dk_4 (dk_at dksX11_test_4 13 rfl rfl)
theorem dX11_test_106 : decode cX11_test 106 = .ok (.goto 4, 3) := dk_167 0 4 (dk_at dksX11_test_4 14 rfl rfl)
theorem dX11_test_109 : decode cX11_test 109 = .ok (.iconst 0, 1) := dk_3 (dk_at dksX11_test_4 17 rfl rfl)
theorem dX11_test_110 : decode cX11_test 110 = .ok (.invokestatic 232, 3) := dk_184 0 232 (dk_at dksX11_test_4 18 rfl rfl)
theorem dX11_test_113 : decode cX11_test 113 = .ok (.iload_n 3, 1) := dk_29 (dk_at dksX11_test_4 21 rfl rfl)
theorem dX11_test_114 : decode cX11_test 114 = .ok (.iload_n 2, 1) := dk_28 (dk_at dksX11_test_4 22 rfl rfl)
theorem dX11_test_115 : decode cX11_test 115 = .ok (.irem, 1) := dk_112 (dk_at dksX11_test_4 23 rfl rfl)
theorem dX11_test_116 : decode cX11_test 116 = .ok (.ifCond .ne 7, 3) := dk_154 0 7 (dk_at dksX11_test_5 0 rfl rfl)
theorem dX11_test_119 : decode cX11_test 119 = .ok (.iconst 1, 1) := dk_4 (dk_at dksX11_test_5 3 rfl rfl)
theorem dX11_test_120 : decode cX11_test 120 = .ok (.goto 4, 3) := dk_167 0 4 (dk_at dksX11_test_5 4 rfl rfl)
theorem dX11_test_123 : decode cX11_test 123 = .ok (.iconst 0, 1) := dk_3 (dk_at dksX11_test_5 7 rfl rfl)
theorem dX11_test_124 : decode cX11_test 124 = .ok (.ireturn, 1) := dk_172 (dk_at dksX11_test_5 8 rfl rfl)
abbrev cX11_copies : ByteArray := prog_29_method_17_code
def yX11_copies : MethodName := ⟨RX11, "copies", "(II)Z"⟩
def dkwX11_copies_2 : List UInt8 := [92, 46, 4, 100, 79, 42, 42, 180, 0, 37, 27, 46, 181, 0, 246, 4, 172]
abbrev dktX11_copies_2 : List UInt8 := dkwX11_copies_2 ++ []
def dkwX11_copies_1 : List UInt8 := [180, 0, 37, 27, 42, 180, 0, 246, 79, 42, 180, 0, 30, 27, 28, 79, 167, 255, 218, 42, 180, 0, 30, 27]
abbrev dktX11_copies_1 : List UInt8 := dkwX11_copies_1 ++ dktX11_copies_2
def dkwX11_copies_0 : List UInt8 := [42, 180, 0, 30, 27, 46, 154, 0, 35, 42, 27, 4, 100, 182, 1, 20, 154, 0, 5, 3, 172, 42]
abbrev dktX11_copies_0 : List UInt8 := dkwX11_copies_0 ++ dktX11_copies_1
theorem dksX11_copies_0 : cX11_copies.data.toList.drop 0 = dktX11_copies_0 := by decide +kernel
theorem dksX11_copies_1 : cX11_copies.data.toList.drop 22 = dktX11_copies_1 := dk_seg dksX11_copies_0 22 rfl rfl
theorem dksX11_copies_2 : cX11_copies.data.toList.drop 46 = dktX11_copies_2 := dk_seg dksX11_copies_1 24 rfl rfl
theorem dX11_copies_0 : decode cX11_copies 0 = .ok (.aload_n 0, 1) := dk_42 (dk_at dksX11_copies_0 0 rfl rfl)
theorem dX11_copies_1 : decode cX11_copies 1 = .ok (.getfield 30, 3) := dk_180 0 30 (dk_at dksX11_copies_0 1 rfl rfl)
theorem dX11_copies_4 : decode cX11_copies 4 = .ok (.iload_n 1, 1) := dk_27 (dk_at dksX11_copies_0 4 rfl rfl)
theorem dX11_copies_5 : decode cX11_copies 5 = .ok (.iaload, 1) := dk_46 (dk_at dksX11_copies_0 5 rfl rfl)
theorem dX11_copies_6 : decode cX11_copies 6 = .ok (.ifCond .ne 35, 3) := dk_154 0 35 (dk_at dksX11_copies_0 6 rfl rfl)
theorem dX11_copies_9 : decode cX11_copies 9 = .ok (.aload_n 0, 1) := dk_42 (dk_at dksX11_copies_0 9 rfl rfl)
theorem dX11_copies_10 : decode cX11_copies 10 = .ok (.iload_n 1, 1) := dk_27 (dk_at dksX11_copies_0 10 rfl rfl)
theorem dX11_copies_11 : decode cX11_copies 11 = .ok (.iconst 1, 1) := dk_4 (dk_at dksX11_copies_0 11 rfl rfl)
theorem dX11_copies_12 : decode cX11_copies 12 = .ok (.isub, 1) := dk_100 (dk_at dksX11_copies_0 12 rfl rfl)
theorem dX11_copies_13 : decode cX11_copies 13 = .ok (.invokevirtual 276, 3) := dk_182 1 20 (dk_at dksX11_copies_0 13 rfl rfl)
theorem dX11_copies_16 : decode cX11_copies 16 = .ok (.ifCond .ne 5, 3) := dk_154 0 5 (dk_at dksX11_copies_0 16 rfl rfl)
theorem dX11_copies_19 : decode cX11_copies 19 = .ok (.iconst 0, 1) := dk_3 (dk_at dksX11_copies_0 19 rfl rfl)
theorem dX11_copies_20 : decode cX11_copies 20 = .ok (.ireturn, 1) := dk_172 (dk_at dksX11_copies_0 20 rfl rfl)
theorem dX11_copies_21 : decode cX11_copies 21 = .ok (.aload_n 0, 1) := dk_42 (dk_at dksX11_copies_0 21 rfl rfl)
theorem dX11_copies_22 : decode cX11_copies 22 = .ok (.getfield 37, 3) := dk_180 0 37 (dk_at dksX11_copies_1 0 rfl rfl)
theorem dX11_copies_25 : decode cX11_copies 25 = .ok (.iload_n 1, 1) := dk_27 (dk_at dksX11_copies_1 3 rfl rfl)
theorem dX11_copies_26 : decode cX11_copies 26 = .ok (.aload_n 0, 1) := dk_42 (dk_at dksX11_copies_1 4 rfl rfl)
theorem dX11_copies_27 : decode cX11_copies 27 = .ok (.getfield 246, 3) := dk_180 0 246 (dk_at dksX11_copies_1 5 rfl rfl)
theorem dX11_copies_30 : decode cX11_copies 30 = .ok (.iastore, 1) := dk_79 (dk_at dksX11_copies_1 8 rfl rfl)
theorem dX11_copies_31 : decode cX11_copies 31 = .ok (.aload_n 0, 1) := dk_42 (dk_at dksX11_copies_1 9 rfl rfl)
theorem dX11_copies_32 : decode cX11_copies 32 = .ok (.getfield 30, 3) := dk_180 0 30 (dk_at dksX11_copies_1 10 rfl rfl)
theorem dX11_copies_35 : decode cX11_copies 35 = .ok (.iload_n 1, 1) := dk_27 (dk_at dksX11_copies_1 13 rfl rfl)
theorem dX11_copies_36 : decode cX11_copies 36 = .ok (.iload_n 2, 1) := dk_28 (dk_at dksX11_copies_1 14 rfl rfl)
theorem dX11_copies_37 : decode cX11_copies 37 = .ok (.iastore, 1) := dk_79 (dk_at dksX11_copies_1 15 rfl rfl)
theorem dX11_copies_38 : decode cX11_copies 38 = .ok (.goto (-38), 3) := dk_167 255 218 (dk_at dksX11_copies_1 16 rfl rfl)
theorem dX11_copies_41 : decode cX11_copies 41 = .ok (.aload_n 0, 1) := dk_42 (dk_at dksX11_copies_1 19 rfl rfl)
theorem dX11_copies_42 : decode cX11_copies 42 = .ok (.getfield 30, 3) := dk_180 0 30 (dk_at dksX11_copies_1 20 rfl rfl)
theorem dX11_copies_45 : decode cX11_copies 45 = .ok (.iload_n 1, 1) := dk_27 (dk_at dksX11_copies_1 23 rfl rfl)
theorem dX11_copies_46 : decode cX11_copies 46 = .ok (.dup2, 1) := dk_92 (dk_at dksX11_copies_2 0 rfl rfl)
theorem dX11_copies_47 : decode cX11_copies 47 = .ok (.iaload, 1) := dk_46 (dk_at dksX11_copies_2 1 rfl rfl)
theorem dX11_copies_48 : decode cX11_copies 48 = .ok (.iconst 1, 1) := dk_4 (dk_at dksX11_copies_2 2 rfl rfl)
theorem dX11_copies_49 : decode cX11_copies 49 = .ok (.isub, 1) := dk_100 (dk_at dksX11_copies_2 3 rfl rfl)
theorem dX11_copies_50 : decode cX11_copies 50 = .ok (.iastore, 1) := dk_79 (dk_at dksX11_copies_2 4 rfl rfl)
theorem dX11_copies_51 : decode cX11_copies 51 = .ok (.aload_n 0, 1) := dk_42 (dk_at dksX11_copies_2 5 rfl rfl)
theorem dX11_copies_52 : decode cX11_copies 52 = .ok (.aload_n 0, 1) := dk_42 (dk_at dksX11_copies_2 6 rfl rfl)
theorem dX11_copies_53 : decode cX11_copies 53 = .ok (.getfield 37, 3) := dk_180 0 37 (dk_at dksX11_copies_2 7 rfl rfl)
theorem dX11_copies_56 : decode cX11_copies 56 = .ok (.iload_n 1, 1) := dk_27 (dk_at dksX11_copies_2 10 rfl rfl)
theorem dX11_copies_57 : decode cX11_copies 57 = .ok (.iaload, 1) := dk_46 (dk_at dksX11_copies_2 11 rfl rfl)
theorem dX11_copies_58 : decode cX11_copies 58 = .ok (.putfield 246, 3) := dk_181 0 246 (dk_at dksX11_copies_2 12 rfl rfl)
theorem dX11_copies_61 : decode cX11_copies 61 = .ok (.iconst 1, 1) := dk_4 (dk_at dksX11_copies_2 15 rfl rfl)
theorem dX11_copies_62 : decode cX11_copies 62 = .ok (.ireturn, 1) := dk_172 (dk_at dksX11_copies_2 16 rfl rfl)
abbrev cX11_distinct : ByteArray := prog_29_method_18_code
def yX11_distinct : MethodName := ⟨RX11, "distinct", "(I)Z"⟩
def dkwX11_distinct_3 : List UInt8 := [172, 3, 172]
abbrev dktX11_distinct_3 : List UInt8 := dkwX11_distinct_3 ++ []
def dkwX11_distinct_2 : List UInt8 := [167, 0, 4, 3, 61, 132, 3, 1, 167, 255, 214, 28, 153, 0, 6, 167, 255, 193, 42, 27, 182, 1, 34, 4]
abbrev dktX11_distinct_2 : List UInt8 := dkwX11_distinct_2 ++ dktX11_distinct_3
def dkwX11_distinct_1 : List UInt8 := [28, 154, 0, 34, 42, 180, 0, 41, 17, 7, 208, 27, 104, 29, 96, 46, 42, 180, 0, 246, 160, 0, 7, 4]
abbrev dktX11_distinct_1 : List UInt8 := dkwX11_distinct_1 ++ dktX11_distinct_2
def dkwX11_distinct_0 : List UInt8 := [42, 27, 4, 100, 182, 1, 20, 153, 0, 66, 3, 61, 3, 62, 29, 42, 180, 0, 30, 27, 46, 162, 0, 38]
abbrev dktX11_distinct_0 : List UInt8 := dkwX11_distinct_0 ++ dktX11_distinct_1
theorem dksX11_distinct_0 : cX11_distinct.data.toList.drop 0 = dktX11_distinct_0 := by decide +kernel
theorem dksX11_distinct_1 : cX11_distinct.data.toList.drop 24 = dktX11_distinct_1 := dk_seg dksX11_distinct_0 24 rfl rfl
theorem dksX11_distinct_2 : cX11_distinct.data.toList.drop 48 = dktX11_distinct_2 := dk_seg dksX11_distinct_1 24 rfl rfl
theorem dksX11_distinct_3 : cX11_distinct.data.toList.drop 72 = dktX11_distinct_3 := dk_seg dksX11_distinct_2 24 rfl rfl
theorem dX11_distinct_0 : decode cX11_distinct 0 = .ok (.aload_n 0, 1) := dk_42 (dk_at dksX11_distinct_0 0 rfl rfl)
theorem dX11_distinct_1 : decode cX11_distinct 1 = .ok (.iload_n 1, 1) := dk_27 (dk_at dksX11_distinct_0 1 rfl rfl)
theorem dX11_distinct_2 : decode cX11_distinct 2 = .ok (.iconst 1, 1) := dk_4 (dk_at dksX11_distinct_0 2 rfl rfl)
theorem dX11_distinct_3 : decode cX11_distinct 3 = .ok (.isub, 1) := dk_100 (dk_at dksX11_distinct_0 3 rfl rfl)
theorem dX11_distinct_4 : decode cX11_distinct 4 = .ok (.invokevirtual 276, 3) := dk_182 1 20 (dk_at dksX11_distinct_0 4 rfl rfl)
theorem dX11_distinct_7 : decode cX11_distinct 7 = .ok (.ifCond .eq 66, 3) := dk_153 0 66 (dk_at dksX11_distinct_0 7 rfl rfl)
theorem dX11_distinct_10 : decode cX11_distinct 10 = .ok (.iconst 0, 1) := dk_3 (dk_at dksX11_distinct_0 10 rfl rfl)
theorem dX11_distinct_11 : decode cX11_distinct 11 = .ok (.istore_n 2, 1) := dk_61 (dk_at dksX11_distinct_0 11 rfl rfl)
theorem dX11_distinct_12 : decode cX11_distinct 12 = .ok (.iconst 0, 1) := dk_3 (dk_at dksX11_distinct_0 12 rfl rfl)
theorem dX11_distinct_13 : decode cX11_distinct 13 = .ok (.istore_n 3, 1) := dk_62 (dk_at dksX11_distinct_0 13 rfl rfl)
theorem dX11_distinct_14 : decode cX11_distinct 14 = .ok (.iload_n 3, 1) := dk_29 (dk_at dksX11_distinct_0 14 rfl rfl)
theorem dX11_distinct_15 : decode cX11_distinct 15 = .ok (.aload_n 0, 1) := dk_42 (dk_at dksX11_distinct_0 15 rfl rfl)
theorem dX11_distinct_16 : decode cX11_distinct 16 = .ok (.getfield 30, 3) := dk_180 0 30 (dk_at dksX11_distinct_0 16 rfl rfl)
theorem dX11_distinct_19 : decode cX11_distinct 19 = .ok (.iload_n 1, 1) := dk_27 (dk_at dksX11_distinct_0 19 rfl rfl)
theorem dX11_distinct_20 : decode cX11_distinct 20 = .ok (.iaload, 1) := dk_46 (dk_at dksX11_distinct_0 20 rfl rfl)
theorem dX11_distinct_21 : decode cX11_distinct 21 = .ok (.if_icmp .ge 38, 3) := dk_162 0 38 (dk_at dksX11_distinct_0 21 rfl rfl)
theorem dX11_distinct_24 : decode cX11_distinct 24 = .ok (.iload_n 2, 1) := dk_28 (dk_at dksX11_distinct_1 0 rfl rfl)
theorem dX11_distinct_25 : decode cX11_distinct 25 = .ok (.ifCond .ne 34, 3) := dk_154 0 34 (dk_at dksX11_distinct_1 1 rfl rfl)
theorem dX11_distinct_28 : decode cX11_distinct 28 = .ok (.aload_n 0, 1) := dk_42 (dk_at dksX11_distinct_1 4 rfl rfl)
theorem dX11_distinct_29 : decode cX11_distinct 29 = .ok (.getfield 41, 3) := dk_180 0 41 (dk_at dksX11_distinct_1 5 rfl rfl)
theorem dX11_distinct_32 : decode cX11_distinct 32 = .ok (.sipush 2000, 3) := dk_17 7 208 (dk_at dksX11_distinct_1 8 rfl rfl)
theorem dX11_distinct_35 : decode cX11_distinct 35 = .ok (.iload_n 1, 1) := dk_27 (dk_at dksX11_distinct_1 11 rfl rfl)
theorem dX11_distinct_36 : decode cX11_distinct 36 = .ok (.imul, 1) := dk_104 (dk_at dksX11_distinct_1 12 rfl rfl)
theorem dX11_distinct_37 : decode cX11_distinct 37 = .ok (.iload_n 3, 1) := dk_29 (dk_at dksX11_distinct_1 13 rfl rfl)
theorem dX11_distinct_38 : decode cX11_distinct 38 = .ok (.iadd, 1) := dk_96 (dk_at dksX11_distinct_1 14 rfl rfl)
theorem dX11_distinct_39 : decode cX11_distinct 39 = .ok (.iaload, 1) := dk_46 (dk_at dksX11_distinct_1 15 rfl rfl)
theorem dX11_distinct_40 : decode cX11_distinct 40 = .ok (.aload_n 0, 1) := dk_42 (dk_at dksX11_distinct_1 16 rfl rfl)
theorem dX11_distinct_41 : decode cX11_distinct 41 = .ok (.getfield 246, 3) := dk_180 0 246 (dk_at dksX11_distinct_1 17 rfl rfl)
theorem dX11_distinct_44 : decode cX11_distinct 44 = .ok (.if_icmp .ne 7, 3) := dk_160 0 7 (dk_at dksX11_distinct_1 20 rfl rfl)
theorem dX11_distinct_47 : decode cX11_distinct 47 = .ok (.iconst 1, 1) := dk_4 (dk_at dksX11_distinct_1 23 rfl rfl)
theorem dX11_distinct_48 : decode cX11_distinct 48 = .ok (.goto 4, 3) := dk_167 0 4 (dk_at dksX11_distinct_2 0 rfl rfl)
theorem dX11_distinct_51 : decode cX11_distinct 51 = .ok (.iconst 0, 1) := dk_3 (dk_at dksX11_distinct_2 3 rfl rfl)
theorem dX11_distinct_52 : decode cX11_distinct 52 = .ok (.istore_n 2, 1) := dk_61 (dk_at dksX11_distinct_2 4 rfl rfl)
theorem dX11_distinct_53 : decode cX11_distinct 53 = .ok (.iinc 3 1, 3) := dk_132 3 1 (dk_at dksX11_distinct_2 5 rfl rfl)
theorem dX11_distinct_56 : decode cX11_distinct 56 = .ok (.goto (-42), 3) := dk_167 255 214 (dk_at dksX11_distinct_2 8 rfl rfl)
theorem dX11_distinct_59 : decode cX11_distinct 59 = .ok (.iload_n 2, 1) := dk_28 (dk_at dksX11_distinct_2 11 rfl rfl)
theorem dX11_distinct_60 : decode cX11_distinct 60 = .ok (.ifCond .eq 6, 3) := dk_153 0 6 (dk_at dksX11_distinct_2 12 rfl rfl)
theorem dX11_distinct_63 : decode cX11_distinct 63 = .ok (.goto (-63), 3) := dk_167 255 193 (dk_at dksX11_distinct_2 15 rfl rfl)
theorem dX11_distinct_66 : decode cX11_distinct 66 = .ok (.aload_n 0, 1) := dk_42 (dk_at dksX11_distinct_2 18 rfl rfl)
theorem dX11_distinct_67 : decode cX11_distinct 67 = .ok (.iload_n 1, 1) := dk_27 (dk_at dksX11_distinct_2 19 rfl rfl)
theorem dX11_distinct_68 : decode cX11_distinct 68 = .ok (.invokevirtual 290, 3) := dk_182 1 34 (dk_at dksX11_distinct_2 20 rfl rfl)
theorem dX11_distinct_71 : decode cX11_distinct 71 = .ok (.iconst 1, 1) := dk_4 (dk_at dksX11_distinct_2 23 rfl rfl)
theorem dX11_distinct_72 : decode cX11_distinct 72 = .ok (.ireturn, 1) := dk_172 (dk_at dksX11_distinct_3 0 rfl rfl)
theorem dX11_distinct_73 : decode cX11_distinct 73 = .ok (.iconst 0, 1) := dk_3 (dk_at dksX11_distinct_3 1 rfl rfl)
theorem dX11_distinct_74 : decode cX11_distinct 74 = .ok (.ireturn, 1) := dk_172 (dk_at dksX11_distinct_3 2 rfl rfl)
abbrev cX11_keep : ByteArray := prog_29_method_19_code
def yX11_keep : MethodName := ⟨RX11, "keep", "(I)V"⟩
def dkwX11_keep_2 : List UInt8 := [4, 96, 79, 177]
abbrev dktX11_keep_2 : List UInt8 := dkwX11_keep_2 ++ []
def dkwX11_keep_1 : List UInt8 := [17, 7, 208, 27, 104, 42, 180, 0, 30, 27, 46, 96, 42, 180, 0, 246, 79, 42, 180, 0, 30, 27, 92, 46]
abbrev dktX11_keep_1 : List UInt8 := dkwX11_keep_1 ++ dktX11_keep_2
def dkwX11_keep_0 : List UInt8 := [42, 180, 0, 30, 27, 46, 17, 7, 208, 162, 0, 7, 4, 167, 0, 4, 3, 184, 0, 232, 42, 180, 0, 41]
abbrev dktX11_keep_0 : List UInt8 := dkwX11_keep_0 ++ dktX11_keep_1
theorem dksX11_keep_0 : cX11_keep.data.toList.drop 0 = dktX11_keep_0 := by decide +kernel
theorem dksX11_keep_1 : cX11_keep.data.toList.drop 24 = dktX11_keep_1 := dk_seg dksX11_keep_0 24 rfl rfl
theorem dksX11_keep_2 : cX11_keep.data.toList.drop 48 = dktX11_keep_2 := dk_seg dksX11_keep_1 24 rfl rfl
theorem dX11_keep_0 : decode cX11_keep 0 = .ok (.aload_n 0, 1) := dk_42 (dk_at dksX11_keep_0 0 rfl rfl)
theorem dX11_keep_1 : decode cX11_keep 1 = .ok (.getfield 30, 3) := dk_180 0 30 (dk_at dksX11_keep_0 1 rfl rfl)
theorem dX11_keep_4 : decode cX11_keep 4 = .ok (.iload_n 1, 1) := dk_27 (dk_at dksX11_keep_0 4 rfl rfl)
theorem dX11_keep_5 : decode cX11_keep 5 = .ok (.iaload, 1) := dk_46 (dk_at dksX11_keep_0 5 rfl rfl)
theorem dX11_keep_6 : decode cX11_keep 6 = .ok (.sipush 2000, 3) := dk_17 7 208 (dk_at dksX11_keep_0 6 rfl rfl)
theorem dX11_keep_9 : decode cX11_keep 9 = .ok (.if_icmp .ge 7, 3) := dk_162 0 7 (dk_at dksX11_keep_0 9 rfl rfl)
theorem dX11_keep_12 : decode cX11_keep 12 = .ok (.iconst 1, 1) := dk_4 (dk_at dksX11_keep_0 12 rfl rfl)
theorem dX11_keep_13 : decode cX11_keep 13 = .ok (.goto 4, 3) := dk_167 0 4 (dk_at dksX11_keep_0 13 rfl rfl)
theorem dX11_keep_16 : decode cX11_keep 16 = .ok (.iconst 0, 1) := dk_3 (dk_at dksX11_keep_0 16 rfl rfl)
theorem dX11_keep_17 : decode cX11_keep 17 = .ok (.invokestatic 232, 3) := dk_184 0 232 (dk_at dksX11_keep_0 17 rfl rfl)
theorem dX11_keep_20 : decode cX11_keep 20 = .ok (.aload_n 0, 1) := dk_42 (dk_at dksX11_keep_0 20 rfl rfl)
theorem dX11_keep_21 : decode cX11_keep 21 = .ok (.getfield 41, 3) := dk_180 0 41 (dk_at dksX11_keep_0 21 rfl rfl)
theorem dX11_keep_24 : decode cX11_keep 24 = .ok (.sipush 2000, 3) := dk_17 7 208 (dk_at dksX11_keep_1 0 rfl rfl)
theorem dX11_keep_27 : decode cX11_keep 27 = .ok (.iload_n 1, 1) := dk_27 (dk_at dksX11_keep_1 3 rfl rfl)
theorem dX11_keep_28 : decode cX11_keep 28 = .ok (.imul, 1) := dk_104 (dk_at dksX11_keep_1 4 rfl rfl)
theorem dX11_keep_29 : decode cX11_keep 29 = .ok (.aload_n 0, 1) := dk_42 (dk_at dksX11_keep_1 5 rfl rfl)
theorem dX11_keep_30 : decode cX11_keep 30 = .ok (.getfield 30, 3) := dk_180 0 30 (dk_at dksX11_keep_1 6 rfl rfl)
theorem dX11_keep_33 : decode cX11_keep 33 = .ok (.iload_n 1, 1) := dk_27 (dk_at dksX11_keep_1 9 rfl rfl)
theorem dX11_keep_34 : decode cX11_keep 34 = .ok (.iaload, 1) := dk_46 (dk_at dksX11_keep_1 10 rfl rfl)
theorem dX11_keep_35 : decode cX11_keep 35 = .ok (.iadd, 1) := dk_96 (dk_at dksX11_keep_1 11 rfl rfl)
theorem dX11_keep_36 : decode cX11_keep 36 = .ok (.aload_n 0, 1) := dk_42 (dk_at dksX11_keep_1 12 rfl rfl)
theorem dX11_keep_37 : decode cX11_keep 37 = .ok (.getfield 246, 3) := dk_180 0 246 (dk_at dksX11_keep_1 13 rfl rfl)
theorem dX11_keep_40 : decode cX11_keep 40 = .ok (.iastore, 1) := dk_79 (dk_at dksX11_keep_1 16 rfl rfl)
theorem dX11_keep_41 : decode cX11_keep 41 = .ok (.aload_n 0, 1) := dk_42 (dk_at dksX11_keep_1 17 rfl rfl)
theorem dX11_keep_42 : decode cX11_keep 42 = .ok (.getfield 30, 3) := dk_180 0 30 (dk_at dksX11_keep_1 18 rfl rfl)
theorem dX11_keep_45 : decode cX11_keep 45 = .ok (.iload_n 1, 1) := dk_27 (dk_at dksX11_keep_1 21 rfl rfl)
theorem dX11_keep_46 : decode cX11_keep 46 = .ok (.dup2, 1) := dk_92 (dk_at dksX11_keep_1 22 rfl rfl)
theorem dX11_keep_47 : decode cX11_keep 47 = .ok (.iaload, 1) := dk_46 (dk_at dksX11_keep_1 23 rfl rfl)
theorem dX11_keep_48 : decode cX11_keep 48 = .ok (.iconst 1, 1) := dk_4 (dk_at dksX11_keep_2 0 rfl rfl)
theorem dX11_keep_49 : decode cX11_keep 49 = .ok (.iadd, 1) := dk_96 (dk_at dksX11_keep_2 1 rfl rfl)
theorem dX11_keep_50 : decode cX11_keep 50 = .ok (.iastore, 1) := dk_79 (dk_at dksX11_keep_2 2 rfl rfl)
theorem dX11_keep_51 : decode cX11_keep 51 = .ok (.return_, 1) := dk_177 (dk_at dksX11_keep_2 3 rfl rfl)
abbrev cX11_sorted : ByteArray := prog_29_method_20_code
def yX11_sorted : MethodName := ⟨RX11, "sorted", "(II)Z"⟩
def dkwX11_sorted_4 : List UInt8 := [180, 0, 37, 27, 92, 46, 4, 96, 79, 4, 172]
abbrev dktX11_sorted_4 : List UInt8 := dkwX11_sorted_4 ++ []
def dkwX11_sorted_3 : List UInt8 := [3, 172, 42, 42, 180, 0, 41, 17, 7, 208, 27, 104, 42, 180, 0, 37, 27, 46, 96, 46, 181, 0, 246, 42]
abbrev dktX11_sorted_3 : List UInt8 := dkwX11_sorted_3 ++ dktX11_sorted_4
def dkwX11_sorted_2 : List UInt8 := [180, 0, 30, 27, 46, 28, 182, 1, 37, 42, 180, 0, 37, 27, 46, 42, 180, 0, 30, 27, 46, 160, 0, 5]
abbrev dktX11_sorted_2 : List UInt8 := dkwX11_sorted_2 ++ dktX11_sorted_3
def dkwX11_sorted_1 : List UInt8 := [167, 255, 241, 42, 180, 0, 33, 27, 4, 84, 42, 180, 0, 37, 27, 3, 79, 42, 17, 7, 208, 27, 104, 42]
abbrev dktX11_sorted_1 : List UInt8 := dkwX11_sorted_1 ++ dktX11_sorted_2
def dkwX11_sorted_0 : List UInt8 := [42, 180, 0, 33, 27, 51, 154, 0, 51, 42, 27, 4, 100, 182, 1, 20, 153, 0, 11, 42, 27, 182, 1, 34]
abbrev dktX11_sorted_0 : List UInt8 := dkwX11_sorted_0 ++ dktX11_sorted_1
theorem dksX11_sorted_0 : cX11_sorted.data.toList.drop 0 = dktX11_sorted_0 := by decide +kernel
theorem dksX11_sorted_1 : cX11_sorted.data.toList.drop 24 = dktX11_sorted_1 := dk_seg dksX11_sorted_0 24 rfl rfl
theorem dksX11_sorted_2 : cX11_sorted.data.toList.drop 48 = dktX11_sorted_2 := dk_seg dksX11_sorted_1 24 rfl rfl
theorem dksX11_sorted_3 : cX11_sorted.data.toList.drop 72 = dktX11_sorted_3 := dk_seg dksX11_sorted_2 24 rfl rfl
theorem dksX11_sorted_4 : cX11_sorted.data.toList.drop 96 = dktX11_sorted_4 := dk_seg dksX11_sorted_3 24 rfl rfl
theorem dX11_sorted_0 : decode cX11_sorted 0 = .ok (.aload_n 0, 1) := dk_42 (dk_at dksX11_sorted_0 0 rfl rfl)
theorem dX11_sorted_1 : decode cX11_sorted 1 = .ok (.getfield 33, 3) := dk_180 0 33 (dk_at dksX11_sorted_0 1 rfl rfl)
theorem dX11_sorted_4 : decode cX11_sorted 4 = .ok (.iload_n 1, 1) := dk_27 (dk_at dksX11_sorted_0 4 rfl rfl)
theorem dX11_sorted_5 : decode cX11_sorted 5 = .ok (.baload, 1) := dk_51 (dk_at dksX11_sorted_0 5 rfl rfl)
theorem dX11_sorted_6 : decode cX11_sorted 6 = .ok (.ifCond .ne 51, 3) := dk_154 0 51 (dk_at dksX11_sorted_0 6 rfl rfl)
theorem dX11_sorted_9 : decode cX11_sorted 9 = .ok (.aload_n 0, 1) := dk_42 (dk_at dksX11_sorted_0 9 rfl rfl)
theorem dX11_sorted_10 : decode cX11_sorted 10 = .ok (.iload_n 1, 1) := dk_27 (dk_at dksX11_sorted_0 10 rfl rfl)
theorem dX11_sorted_11 : decode cX11_sorted 11 = .ok (.iconst 1, 1) := dk_4 (dk_at dksX11_sorted_0 11 rfl rfl)
theorem dX11_sorted_12 : decode cX11_sorted 12 = .ok (.isub, 1) := dk_100 (dk_at dksX11_sorted_0 12 rfl rfl)
theorem dX11_sorted_13 : decode cX11_sorted 13 = .ok (.invokevirtual 276, 3) := dk_182 1 20 (dk_at dksX11_sorted_0 13 rfl rfl)
theorem dX11_sorted_16 : decode cX11_sorted 16 = .ok (.ifCond .eq 11, 3) := dk_153 0 11 (dk_at dksX11_sorted_0 16 rfl rfl)
theorem dX11_sorted_19 : decode cX11_sorted 19 = .ok (.aload_n 0, 1) := dk_42 (dk_at dksX11_sorted_0 19 rfl rfl)
theorem dX11_sorted_20 : decode cX11_sorted 20 = .ok (.iload_n 1, 1) := dk_27 (dk_at dksX11_sorted_0 20 rfl rfl)
theorem dX11_sorted_21 : decode cX11_sorted 21 = .ok (.invokevirtual 290, 3) := dk_182 1 34 (dk_at dksX11_sorted_0 21 rfl rfl)
theorem dX11_sorted_24 : decode cX11_sorted 24 = .ok (.goto (-15), 3) := dk_167 255 241 (dk_at dksX11_sorted_1 0 rfl rfl)
theorem dX11_sorted_27 : decode cX11_sorted 27 = .ok (.aload_n 0, 1) := dk_42 (dk_at dksX11_sorted_1 3 rfl rfl)
theorem dX11_sorted_28 : decode cX11_sorted 28 = .ok (.getfield 33, 3) := dk_180 0 33 (dk_at dksX11_sorted_1 4 rfl rfl)
theorem dX11_sorted_31 : decode cX11_sorted 31 = .ok (.iload_n 1, 1) := dk_27 (dk_at dksX11_sorted_1 7 rfl rfl)
theorem dX11_sorted_32 : decode cX11_sorted 32 = .ok (.iconst 1, 1) := dk_4 (dk_at dksX11_sorted_1 8 rfl rfl)
theorem dX11_sorted_33 : decode cX11_sorted 33 = .ok (.bastore, 1) := dk_84 (dk_at dksX11_sorted_1 9 rfl rfl)
theorem dX11_sorted_34 : decode cX11_sorted 34 = .ok (.aload_n 0, 1) := dk_42 (dk_at dksX11_sorted_1 10 rfl rfl)
theorem dX11_sorted_35 : decode cX11_sorted 35 = .ok (.getfield 37, 3) := dk_180 0 37 (dk_at dksX11_sorted_1 11 rfl rfl)
theorem dX11_sorted_38 : decode cX11_sorted 38 = .ok (.iload_n 1, 1) := dk_27 (dk_at dksX11_sorted_1 14 rfl rfl)
theorem dX11_sorted_39 : decode cX11_sorted 39 = .ok (.iconst 0, 1) := dk_3 (dk_at dksX11_sorted_1 15 rfl rfl)
theorem dX11_sorted_40 : decode cX11_sorted 40 = .ok (.iastore, 1) := dk_79 (dk_at dksX11_sorted_1 16 rfl rfl)
theorem dX11_sorted_41 : decode cX11_sorted 41 = .ok (.aload_n 0, 1) := dk_42 (dk_at dksX11_sorted_1 17 rfl rfl)
theorem dX11_sorted_42 : decode cX11_sorted 42 = .ok (.sipush 2000, 3) := dk_17 7 208 (dk_at dksX11_sorted_1 18 rfl rfl)
theorem dX11_sorted_45 : decode cX11_sorted 45 = .ok (.iload_n 1, 1) := dk_27 (dk_at dksX11_sorted_1 21 rfl rfl)
theorem dX11_sorted_46 : decode cX11_sorted 46 = .ok (.imul, 1) := dk_104 (dk_at dksX11_sorted_1 22 rfl rfl)
theorem dX11_sorted_47 : decode cX11_sorted 47 = .ok (.aload_n 0, 1) := dk_42 (dk_at dksX11_sorted_1 23 rfl rfl)
theorem dX11_sorted_48 : decode cX11_sorted 48 = .ok (.getfield 30, 3) := dk_180 0 30 (dk_at dksX11_sorted_2 0 rfl rfl)
theorem dX11_sorted_51 : decode cX11_sorted 51 = .ok (.iload_n 1, 1) := dk_27 (dk_at dksX11_sorted_2 3 rfl rfl)
theorem dX11_sorted_52 : decode cX11_sorted 52 = .ok (.iaload, 1) := dk_46 (dk_at dksX11_sorted_2 4 rfl rfl)
theorem dX11_sorted_53 : decode cX11_sorted 53 = .ok (.iload_n 2, 1) := dk_28 (dk_at dksX11_sorted_2 5 rfl rfl)
theorem dX11_sorted_54 : decode cX11_sorted 54 = .ok (.invokevirtual 293, 3) := dk_182 1 37 (dk_at dksX11_sorted_2 6 rfl rfl)
theorem dX11_sorted_57 : decode cX11_sorted 57 = .ok (.aload_n 0, 1) := dk_42 (dk_at dksX11_sorted_2 9 rfl rfl)
theorem dX11_sorted_58 : decode cX11_sorted 58 = .ok (.getfield 37, 3) := dk_180 0 37 (dk_at dksX11_sorted_2 10 rfl rfl)
theorem dX11_sorted_61 : decode cX11_sorted 61 = .ok (.iload_n 1, 1) := dk_27 (dk_at dksX11_sorted_2 13 rfl rfl)
theorem dX11_sorted_62 : decode cX11_sorted 62 = .ok (.iaload, 1) := dk_46 (dk_at dksX11_sorted_2 14 rfl rfl)
theorem dX11_sorted_63 : decode cX11_sorted 63 = .ok (.aload_n 0, 1) := dk_42 (dk_at dksX11_sorted_2 15 rfl rfl)
theorem dX11_sorted_64 : decode cX11_sorted 64 = .ok (.getfield 30, 3) := dk_180 0 30 (dk_at dksX11_sorted_2 16 rfl rfl)
theorem dX11_sorted_67 : decode cX11_sorted 67 = .ok (.iload_n 1, 1) := dk_27 (dk_at dksX11_sorted_2 19 rfl rfl)
theorem dX11_sorted_68 : decode cX11_sorted 68 = .ok (.iaload, 1) := dk_46 (dk_at dksX11_sorted_2 20 rfl rfl)
theorem dX11_sorted_69 : decode cX11_sorted 69 = .ok (.if_icmp .ne 5, 3) := dk_160 0 5 (dk_at dksX11_sorted_2 21 rfl rfl)
theorem dX11_sorted_72 : decode cX11_sorted 72 = .ok (.iconst 0, 1) := dk_3 (dk_at dksX11_sorted_3 0 rfl rfl)
theorem dX11_sorted_73 : decode cX11_sorted 73 = .ok (.ireturn, 1) := dk_172 (dk_at dksX11_sorted_3 1 rfl rfl)
theorem dX11_sorted_74 : decode cX11_sorted 74 = .ok (.aload_n 0, 1) := dk_42 (dk_at dksX11_sorted_3 2 rfl rfl)
theorem dX11_sorted_75 : decode cX11_sorted 75 = .ok (.aload_n 0, 1) := dk_42 (dk_at dksX11_sorted_3 3 rfl rfl)
theorem dX11_sorted_76 : decode cX11_sorted 76 = .ok (.getfield 41, 3) := dk_180 0 41 (dk_at dksX11_sorted_3 4 rfl rfl)
theorem dX11_sorted_79 : decode cX11_sorted 79 = .ok (.sipush 2000, 3) := dk_17 7 208 (dk_at dksX11_sorted_3 7 rfl rfl)
theorem dX11_sorted_82 : decode cX11_sorted 82 = .ok (.iload_n 1, 1) := dk_27 (dk_at dksX11_sorted_3 10 rfl rfl)
theorem dX11_sorted_83 : decode cX11_sorted 83 = .ok (.imul, 1) := dk_104 (dk_at dksX11_sorted_3 11 rfl rfl)
theorem dX11_sorted_84 : decode cX11_sorted 84 = .ok (.aload_n 0, 1) := dk_42 (dk_at dksX11_sorted_3 12 rfl rfl)
theorem dX11_sorted_85 : decode cX11_sorted 85 = .ok (.getfield 37, 3) := dk_180 0 37 (dk_at dksX11_sorted_3 13 rfl rfl)
theorem dX11_sorted_88 : decode cX11_sorted 88 = .ok (.iload_n 1, 1) := dk_27 (dk_at dksX11_sorted_3 16 rfl rfl)
theorem dX11_sorted_89 : decode cX11_sorted 89 = .ok (.iaload, 1) := dk_46 (dk_at dksX11_sorted_3 17 rfl rfl)
theorem dX11_sorted_90 : decode cX11_sorted 90 = .ok (.iadd, 1) := dk_96 (dk_at dksX11_sorted_3 18 rfl rfl)
theorem dX11_sorted_91 : decode cX11_sorted 91 = .ok (.iaload, 1) := dk_46 (dk_at dksX11_sorted_3 19 rfl rfl)
theorem dX11_sorted_92 : decode cX11_sorted 92 = .ok (.putfield 246, 3) := dk_181 0 246 (dk_at dksX11_sorted_3 20 rfl rfl)
theorem dX11_sorted_95 : decode cX11_sorted 95 = .ok (.aload_n 0, 1) := dk_42 (dk_at dksX11_sorted_3 23 rfl rfl)
theorem dX11_sorted_96 : decode cX11_sorted 96 = .ok (.getfield 37, 3) := dk_180 0 37 (dk_at dksX11_sorted_4 0 rfl rfl)
theorem dX11_sorted_99 : decode cX11_sorted 99 = .ok (.iload_n 1, 1) := dk_27 (dk_at dksX11_sorted_4 3 rfl rfl)
theorem dX11_sorted_100 : decode cX11_sorted 100 = .ok (.dup2, 1) := dk_92 (dk_at dksX11_sorted_4 4 rfl rfl)
theorem dX11_sorted_101 : decode cX11_sorted 101 = .ok (.iaload, 1) := dk_46 (dk_at dksX11_sorted_4 5 rfl rfl)
theorem dX11_sorted_102 : decode cX11_sorted 102 = .ok (.iconst 1, 1) := dk_4 (dk_at dksX11_sorted_4 6 rfl rfl)
theorem dX11_sorted_103 : decode cX11_sorted 103 = .ok (.iadd, 1) := dk_96 (dk_at dksX11_sorted_4 7 rfl rfl)
theorem dX11_sorted_104 : decode cX11_sorted 104 = .ok (.iastore, 1) := dk_79 (dk_at dksX11_sorted_4 8 rfl rfl)
theorem dX11_sorted_105 : decode cX11_sorted 105 = .ok (.iconst 1, 1) := dk_4 (dk_at dksX11_sorted_4 9 rfl rfl)
theorem dX11_sorted_106 : decode cX11_sorted 106 = .ok (.ireturn, 1) := dk_172 (dk_at dksX11_sorted_4 10 rfl rfl)
abbrev cX11_sort : ByteArray := prog_29_method_21_code
def yX11_sort : MethodName := ⟨RX11, "sort", "(III)V"⟩
def dkwX11_sort_3 : List UInt8 := [184, 1, 50, 21, 4, 5, 104, 54, 4, 167, 255, 181, 177]
abbrev dktX11_sort_3 : List UInt8 := dkwX11_sort_3 ++ []
def dkwX11_sort_2 : List UInt8 := [21, 5, 5, 21, 4, 104, 96, 54, 5, 167, 255, 213, 42, 180, 0, 44, 3, 42, 180, 0, 41, 27, 28]
abbrev dktX11_sort_2 : List UInt8 := dkwX11_sort_2 ++ dktX11_sort_3
def dkwX11_sort_1 : List UInt8 := [21, 5, 21, 4, 96, 184, 1, 41, 28, 21, 5, 5, 21, 4, 104, 96, 184, 1, 41, 29, 182, 1, 46]
abbrev dktX11_sort_1 : List UInt8 := dkwX11_sort_1 ++ dktX11_sort_2
def dkwX11_sort_0 : List UInt8 := [4, 54, 4, 21, 4, 28, 162, 0, 75, 3, 54, 5, 21, 5, 28, 162, 0, 43, 42, 27, 21, 5, 28]
abbrev dktX11_sort_0 : List UInt8 := dkwX11_sort_0 ++ dktX11_sort_1
theorem dksX11_sort_0 : cX11_sort.data.toList.drop 0 = dktX11_sort_0 := by decide +kernel
theorem dksX11_sort_1 : cX11_sort.data.toList.drop 23 = dktX11_sort_1 := dk_seg dksX11_sort_0 23 rfl rfl
theorem dksX11_sort_2 : cX11_sort.data.toList.drop 46 = dktX11_sort_2 := dk_seg dksX11_sort_1 23 rfl rfl
theorem dksX11_sort_3 : cX11_sort.data.toList.drop 69 = dktX11_sort_3 := dk_seg dksX11_sort_2 23 rfl rfl
theorem dX11_sort_0 : decode cX11_sort 0 = .ok (.iconst 1, 1) := dk_4 (dk_at dksX11_sort_0 0 rfl rfl)
theorem dX11_sort_1 : decode cX11_sort 1 = .ok (.istore 4, 2) := dk_54 4 (dk_at dksX11_sort_0 1 rfl rfl)
theorem dX11_sort_3 : decode cX11_sort 3 = .ok (.iload 4, 2) := dk_21 4 (dk_at dksX11_sort_0 3 rfl rfl)
theorem dX11_sort_5 : decode cX11_sort 5 = .ok (.iload_n 2, 1) := dk_28 (dk_at dksX11_sort_0 5 rfl rfl)
theorem dX11_sort_6 : decode cX11_sort 6 = .ok (.if_icmp .ge 75, 3) := dk_162 0 75 (dk_at dksX11_sort_0 6 rfl rfl)
theorem dX11_sort_9 : decode cX11_sort 9 = .ok (.iconst 0, 1) := dk_3 (dk_at dksX11_sort_0 9 rfl rfl)
theorem dX11_sort_10 : decode cX11_sort 10 = .ok (.istore 5, 2) := dk_54 5 (dk_at dksX11_sort_0 10 rfl rfl)
theorem dX11_sort_12 : decode cX11_sort 12 = .ok (.iload 5, 2) := dk_21 5 (dk_at dksX11_sort_0 12 rfl rfl)
theorem dX11_sort_14 : decode cX11_sort 14 = .ok (.iload_n 2, 1) := dk_28 (dk_at dksX11_sort_0 14 rfl rfl)
theorem dX11_sort_15 : decode cX11_sort 15 = .ok (.if_icmp .ge 43, 3) := dk_162 0 43 (dk_at dksX11_sort_0 15 rfl rfl)
theorem dX11_sort_18 : decode cX11_sort 18 = .ok (.aload_n 0, 1) := dk_42 (dk_at dksX11_sort_0 18 rfl rfl)
theorem dX11_sort_19 : decode cX11_sort 19 = .ok (.iload_n 1, 1) := dk_27 (dk_at dksX11_sort_0 19 rfl rfl)
theorem dX11_sort_20 : decode cX11_sort 20 = .ok (.iload 5, 2) := dk_21 5 (dk_at dksX11_sort_0 20 rfl rfl)
theorem dX11_sort_22 : decode cX11_sort 22 = .ok (.iload_n 2, 1) := dk_28 (dk_at dksX11_sort_0 22 rfl rfl)
theorem dX11_sort_23 : decode cX11_sort 23 = .ok (.iload 5, 2) := dk_21 5 (dk_at dksX11_sort_1 0 rfl rfl)
theorem dX11_sort_25 : decode cX11_sort 25 = .ok (.iload 4, 2) := dk_21 4 (dk_at dksX11_sort_1 2 rfl rfl)
theorem dX11_sort_27 : decode cX11_sort 27 = .ok (.iadd, 1) := dk_96 (dk_at dksX11_sort_1 4 rfl rfl)
theorem dX11_sort_28 : decode cX11_sort 28 = .ok (.invokestatic 297, 3) := dk_184 1 41 (dk_at dksX11_sort_1 5 rfl rfl)
theorem dX11_sort_31 : decode cX11_sort 31 = .ok (.iload_n 2, 1) := dk_28 (dk_at dksX11_sort_1 8 rfl rfl)
theorem dX11_sort_32 : decode cX11_sort 32 = .ok (.iload 5, 2) := dk_21 5 (dk_at dksX11_sort_1 9 rfl rfl)
theorem dX11_sort_34 : decode cX11_sort 34 = .ok (.iconst 2, 1) := dk_5 (dk_at dksX11_sort_1 11 rfl rfl)
theorem dX11_sort_35 : decode cX11_sort 35 = .ok (.iload 4, 2) := dk_21 4 (dk_at dksX11_sort_1 12 rfl rfl)
theorem dX11_sort_37 : decode cX11_sort 37 = .ok (.imul, 1) := dk_104 (dk_at dksX11_sort_1 14 rfl rfl)
theorem dX11_sort_38 : decode cX11_sort 38 = .ok (.iadd, 1) := dk_96 (dk_at dksX11_sort_1 15 rfl rfl)
theorem dX11_sort_39 : decode cX11_sort 39 = .ok (.invokestatic 297, 3) := dk_184 1 41 (dk_at dksX11_sort_1 16 rfl rfl)
theorem dX11_sort_42 : decode cX11_sort 42 = .ok (.iload_n 3, 1) := dk_29 (dk_at dksX11_sort_1 19 rfl rfl)
theorem dX11_sort_43 : decode cX11_sort 43 = .ok (.invokevirtual 302, 3) := dk_182 1 46 (dk_at dksX11_sort_1 20 rfl rfl)
theorem dX11_sort_46 : decode cX11_sort 46 = .ok (.iload 5, 2) := dk_21 5 (dk_at dksX11_sort_2 0 rfl rfl)
theorem dX11_sort_48 : decode cX11_sort 48 = .ok (.iconst 2, 1) := dk_5 (dk_at dksX11_sort_2 2 rfl rfl)
theorem dX11_sort_49 : decode cX11_sort 49 = .ok (.iload 4, 2) := dk_21 4 (dk_at dksX11_sort_2 3 rfl rfl)
theorem dX11_sort_51 : decode cX11_sort 51 = .ok (.imul, 1) := dk_104 (dk_at dksX11_sort_2 5 rfl rfl)
theorem dX11_sort_52 : decode cX11_sort 52 = .ok (.iadd, 1) := dk_96 (dk_at dksX11_sort_2 6 rfl rfl)
theorem dX11_sort_53 : decode cX11_sort 53 = .ok (.istore 5, 2) := dk_54 5 (dk_at dksX11_sort_2 7 rfl rfl)
theorem dX11_sort_55 : decode cX11_sort 55 = .ok (.goto (-43), 3) := dk_167 255 213 (dk_at dksX11_sort_2 9 rfl rfl)
theorem dX11_sort_58 : decode cX11_sort 58 = .ok (.aload_n 0, 1) := dk_42 (dk_at dksX11_sort_2 12 rfl rfl)
theorem dX11_sort_59 : decode cX11_sort 59 = .ok (.getfield 44, 3) := dk_180 0 44 (dk_at dksX11_sort_2 13 rfl rfl)
theorem dX11_sort_62 : decode cX11_sort 62 = .ok (.iconst 0, 1) := dk_3 (dk_at dksX11_sort_2 16 rfl rfl)
theorem dX11_sort_63 : decode cX11_sort 63 = .ok (.aload_n 0, 1) := dk_42 (dk_at dksX11_sort_2 17 rfl rfl)
theorem dX11_sort_64 : decode cX11_sort 64 = .ok (.getfield 41, 3) := dk_180 0 41 (dk_at dksX11_sort_2 18 rfl rfl)
theorem dX11_sort_67 : decode cX11_sort 67 = .ok (.iload_n 1, 1) := dk_27 (dk_at dksX11_sort_2 21 rfl rfl)
theorem dX11_sort_68 : decode cX11_sort 68 = .ok (.iload_n 2, 1) := dk_28 (dk_at dksX11_sort_2 22 rfl rfl)
theorem dX11_sort_69 : decode cX11_sort 69 = .ok (.invokestatic 306, 3) := dk_184 1 50 (dk_at dksX11_sort_3 0 rfl rfl)
theorem dX11_sort_72 : decode cX11_sort 72 = .ok (.iload 4, 2) := dk_21 4 (dk_at dksX11_sort_3 3 rfl rfl)
theorem dX11_sort_74 : decode cX11_sort 74 = .ok (.iconst 2, 1) := dk_5 (dk_at dksX11_sort_3 5 rfl rfl)
theorem dX11_sort_75 : decode cX11_sort 75 = .ok (.imul, 1) := dk_104 (dk_at dksX11_sort_3 6 rfl rfl)
theorem dX11_sort_76 : decode cX11_sort 76 = .ok (.istore 4, 2) := dk_54 4 (dk_at dksX11_sort_3 7 rfl rfl)
theorem dX11_sort_78 : decode cX11_sort 78 = .ok (.goto (-75), 3) := dk_167 255 181 (dk_at dksX11_sort_3 9 rfl rfl)
theorem dX11_sort_81 : decode cX11_sort 81 = .ok (.return_, 1) := dk_177 (dk_at dksX11_sort_3 12 rfl rfl)
abbrev cX11_merge : ByteArray := prog_29_method_22_code
def yX11_merge : MethodName := ⟨RX11, "merge", "(IIIII)V"⟩
def dkwX11_merge_4 : List UInt8 := [79, 21, 9, 153, 0, 9, 132, 6, 1, 167, 0, 6, 132, 7, 1, 132, 8, 1, 167, 255, 153, 177]
abbrev dktX11_merge_4 : List UInt8 := dkwX11_merge_4 ++ []
def dkwX11_merge_3 : List UInt8 := [153, 0, 15, 42, 180, 0, 41, 27, 21, 6, 96, 46, 167, 0, 12, 42, 180, 0, 41, 27, 21, 7, 96, 46]
abbrev dktX11_merge_3 : List UInt8 := dkwX11_merge_3 ++ dktX11_merge_4
def dkwX11_merge_2 : List UInt8 := [96, 46, 184, 1, 56, 157, 0, 7, 4, 167, 0, 4, 3, 54, 9, 42, 180, 0, 44, 21, 8, 21, 9]
abbrev dktX11_merge_2 : List UInt8 := dkwX11_merge_2 ++ dktX11_merge_3
def dkwX11_merge_1 : List UInt8 := [21, 6, 29, 162, 0, 33, 21, 5, 42, 180, 0, 41, 27, 21, 6, 96, 46, 42, 180, 0, 41, 27, 21, 7]
abbrev dktX11_merge_1 : List UInt8 := dkwX11_merge_1 ++ dktX11_merge_2
def dkwX11_merge_0 : List UInt8 := [28, 54, 6, 29, 54, 7, 28, 54, 8, 21, 8, 21, 4, 162, 0, 102, 21, 7, 21, 4, 159, 0, 35]
abbrev dktX11_merge_0 : List UInt8 := dkwX11_merge_0 ++ dktX11_merge_1
theorem dksX11_merge_0 : cX11_merge.data.toList.drop 0 = dktX11_merge_0 := by decide +kernel
theorem dksX11_merge_1 : cX11_merge.data.toList.drop 23 = dktX11_merge_1 := dk_seg dksX11_merge_0 23 rfl rfl
theorem dksX11_merge_2 : cX11_merge.data.toList.drop 47 = dktX11_merge_2 := dk_seg dksX11_merge_1 24 rfl rfl
theorem dksX11_merge_3 : cX11_merge.data.toList.drop 70 = dktX11_merge_3 := dk_seg dksX11_merge_2 23 rfl rfl
theorem dksX11_merge_4 : cX11_merge.data.toList.drop 94 = dktX11_merge_4 := dk_seg dksX11_merge_3 24 rfl rfl
theorem dX11_merge_0 : decode cX11_merge 0 = .ok (.iload_n 2, 1) := dk_28 (dk_at dksX11_merge_0 0 rfl rfl)
theorem dX11_merge_1 : decode cX11_merge 1 = .ok (.istore 6, 2) := dk_54 6 (dk_at dksX11_merge_0 1 rfl rfl)
theorem dX11_merge_3 : decode cX11_merge 3 = .ok (.iload_n 3, 1) := dk_29 (dk_at dksX11_merge_0 3 rfl rfl)
theorem dX11_merge_4 : decode cX11_merge 4 = .ok (.istore 7, 2) := dk_54 7 (dk_at dksX11_merge_0 4 rfl rfl)
theorem dX11_merge_6 : decode cX11_merge 6 = .ok (.iload_n 2, 1) := dk_28 (dk_at dksX11_merge_0 6 rfl rfl)
theorem dX11_merge_7 : decode cX11_merge 7 = .ok (.istore 8, 2) := dk_54 8 (dk_at dksX11_merge_0 7 rfl rfl)
theorem dX11_merge_9 : decode cX11_merge 9 = .ok (.iload 8, 2) := dk_21 8 (dk_at dksX11_merge_0 9 rfl rfl)
theorem dX11_merge_11 : decode cX11_merge 11 = .ok (.iload 4, 2) := dk_21 4 (dk_at dksX11_merge_0 11 rfl rfl)
theorem dX11_merge_13 : decode cX11_merge 13 = .ok (.if_icmp .ge 102, 3) := dk_162 0 102 (dk_at dksX11_merge_0 13 rfl rfl)
theorem dX11_merge_16 : decode cX11_merge 16 = .ok (.iload 7, 2) := dk_21 7 (dk_at dksX11_merge_0 16 rfl rfl)
theorem dX11_merge_18 : decode cX11_merge 18 = .ok (.iload 4, 2) := dk_21 4 (dk_at dksX11_merge_0 18 rfl rfl)
theorem dX11_merge_20 : decode cX11_merge 20 = .ok (.if_icmp .eq 35, 3) := dk_159 0 35 (dk_at dksX11_merge_0 20 rfl rfl)
theorem dX11_merge_23 : decode cX11_merge 23 = .ok (.iload 6, 2) := dk_21 6 (dk_at dksX11_merge_1 0 rfl rfl)
theorem dX11_merge_25 : decode cX11_merge 25 = .ok (.iload_n 3, 1) := dk_29 (dk_at dksX11_merge_1 2 rfl rfl)
theorem dX11_merge_26 : decode cX11_merge 26 = .ok (.if_icmp .ge 33, 3) := dk_162 0 33 (dk_at dksX11_merge_1 3 rfl rfl)
theorem dX11_merge_29 : decode cX11_merge 29 = .ok (.iload 5, 2) := dk_21 5 (dk_at dksX11_merge_1 6 rfl rfl)
theorem dX11_merge_31 : decode cX11_merge 31 = .ok (.aload_n 0, 1) := dk_42 (dk_at dksX11_merge_1 8 rfl rfl)
theorem dX11_merge_32 : decode cX11_merge 32 = .ok (.getfield 41, 3) := dk_180 0 41 (dk_at dksX11_merge_1 9 rfl rfl)
theorem dX11_merge_35 : decode cX11_merge 35 = .ok (.iload_n 1, 1) := dk_27 (dk_at dksX11_merge_1 12 rfl rfl)
theorem dX11_merge_36 : decode cX11_merge 36 = .ok (.iload 6, 2) := dk_21 6 (dk_at dksX11_merge_1 13 rfl rfl)
theorem dX11_merge_38 : decode cX11_merge 38 = .ok (.iadd, 1) := dk_96 (dk_at dksX11_merge_1 15 rfl rfl)
theorem dX11_merge_39 : decode cX11_merge 39 = .ok (.iaload, 1) := dk_46 (dk_at dksX11_merge_1 16 rfl rfl)
theorem dX11_merge_40 : decode cX11_merge 40 = .ok (.aload_n 0, 1) := dk_42 (dk_at dksX11_merge_1 17 rfl rfl)
theorem dX11_merge_41 : decode cX11_merge 41 = .ok (.getfield 41, 3) := dk_180 0 41 (dk_at dksX11_merge_1 18 rfl rfl)
theorem dX11_merge_44 : decode cX11_merge 44 = .ok (.iload_n 1, 1) := dk_27 (dk_at dksX11_merge_1 21 rfl rfl)
theorem dX11_merge_45 : decode cX11_merge 45 = .ok (.iload 7, 2) := dk_21 7 (dk_at dksX11_merge_1 22 rfl rfl)
theorem dX11_merge_47 : decode cX11_merge 47 = .ok (.iadd, 1) := dk_96 (dk_at dksX11_merge_2 0 rfl rfl)
theorem dX11_merge_48 : decode cX11_merge 48 = .ok (.iaload, 1) := dk_46 (dk_at dksX11_merge_2 1 rfl rfl)
theorem dX11_merge_49 : decode cX11_merge 49 = .ok (.invokestatic 312, 3) := dk_184 1 56 (dk_at dksX11_merge_2 2 rfl rfl)
theorem dX11_merge_52 : decode cX11_merge 52 = .ok (.ifCond .gt 7, 3) := dk_157 0 7 (dk_at dksX11_merge_2 5 rfl rfl)
theorem dX11_merge_55 : decode cX11_merge 55 = .ok (.iconst 1, 1) := dk_4 (dk_at dksX11_merge_2 8 rfl rfl)
theorem dX11_merge_56 : decode cX11_merge 56 = .ok (.goto 4, 3) := dk_167 0 4 (dk_at dksX11_merge_2 9 rfl rfl)
theorem dX11_merge_59 : decode cX11_merge 59 = .ok (.iconst 0, 1) := dk_3 (dk_at dksX11_merge_2 12 rfl rfl)
theorem dX11_merge_60 : decode cX11_merge 60 = .ok (.istore 9, 2) := dk_54 9 (dk_at dksX11_merge_2 13 rfl rfl)
theorem dX11_merge_62 : decode cX11_merge 62 = .ok (.aload_n 0, 1) := dk_42 (dk_at dksX11_merge_2 15 rfl rfl)
theorem dX11_merge_63 : decode cX11_merge 63 = .ok (.getfield 44, 3) := dk_180 0 44 (dk_at dksX11_merge_2 16 rfl rfl)
theorem dX11_merge_66 : decode cX11_merge 66 = .ok (.iload 8, 2) := dk_21 8 (dk_at dksX11_merge_2 19 rfl rfl)
theorem dX11_merge_68 : decode cX11_merge 68 = .ok (.iload 9, 2) := dk_21 9 (dk_at dksX11_merge_2 21 rfl rfl)
theorem dX11_merge_70 : decode cX11_merge 70 = .ok (.ifCond .eq 15, 3) := dk_153 0 15 (dk_at dksX11_merge_3 0 rfl rfl)
theorem dX11_merge_73 : decode cX11_merge 73 = .ok (.aload_n 0, 1) := dk_42 (dk_at dksX11_merge_3 3 rfl rfl)
theorem dX11_merge_74 : decode cX11_merge 74 = .ok (.getfield 41, 3) := dk_180 0 41 (dk_at dksX11_merge_3 4 rfl rfl)
theorem dX11_merge_77 : decode cX11_merge 77 = .ok (.iload_n 1, 1) := dk_27 (dk_at dksX11_merge_3 7 rfl rfl)
theorem dX11_merge_78 : decode cX11_merge 78 = .ok (.iload 6, 2) := dk_21 6 (dk_at dksX11_merge_3 8 rfl rfl)
theorem dX11_merge_80 : decode cX11_merge 80 = .ok (.iadd, 1) := dk_96 (dk_at dksX11_merge_3 10 rfl rfl)
theorem dX11_merge_81 : decode cX11_merge 81 = .ok (.iaload, 1) := dk_46 (dk_at dksX11_merge_3 11 rfl rfl)
theorem dX11_merge_82 : decode cX11_merge 82 = .ok (.goto 12, 3) := dk_167 0 12 (dk_at dksX11_merge_3 12 rfl rfl)
theorem dX11_merge_85 : decode cX11_merge 85 = .ok (.aload_n 0, 1) := dk_42 (dk_at dksX11_merge_3 15 rfl rfl)
theorem dX11_merge_86 : decode cX11_merge 86 = .ok (.getfield 41, 3) := dk_180 0 41 (dk_at dksX11_merge_3 16 rfl rfl)
theorem dX11_merge_89 : decode cX11_merge 89 = .ok (.iload_n 1, 1) := dk_27 (dk_at dksX11_merge_3 19 rfl rfl)
theorem dX11_merge_90 : decode cX11_merge 90 = .ok (.iload 7, 2) := dk_21 7 (dk_at dksX11_merge_3 20 rfl rfl)
theorem dX11_merge_92 : decode cX11_merge 92 = .ok (.iadd, 1) := dk_96 (dk_at dksX11_merge_3 22 rfl rfl)
theorem dX11_merge_93 : decode cX11_merge 93 = .ok (.iaload, 1) := dk_46 (dk_at dksX11_merge_3 23 rfl rfl)
theorem dX11_merge_94 : decode cX11_merge 94 = .ok (.iastore, 1) := dk_79 (dk_at dksX11_merge_4 0 rfl rfl)
theorem dX11_merge_95 : decode cX11_merge 95 = .ok (.iload 9, 2) := dk_21 9 (dk_at dksX11_merge_4 1 rfl rfl)
theorem dX11_merge_97 : decode cX11_merge 97 = .ok (.ifCond .eq 9, 3) := dk_153 0 9 (dk_at dksX11_merge_4 3 rfl rfl)
theorem dX11_merge_100 : decode cX11_merge 100 = .ok (.iinc 6 1, 3) := dk_132 6 1 (dk_at dksX11_merge_4 6 rfl rfl)
theorem dX11_merge_103 : decode cX11_merge 103 = .ok (.goto 6, 3) := dk_167 0 6 (dk_at dksX11_merge_4 9 rfl rfl)
theorem dX11_merge_106 : decode cX11_merge 106 = .ok (.iinc 7 1, 3) := dk_132 7 1 (dk_at dksX11_merge_4 12 rfl rfl)
theorem dX11_merge_109 : decode cX11_merge 109 = .ok (.iinc 8 1, 3) := dk_132 8 1 (dk_at dksX11_merge_4 15 rfl rfl)
theorem dX11_merge_112 : decode cX11_merge 112 = .ok (.goto (-103), 3) := dk_167 255 153 (dk_at dksX11_merge_4 18 rfl rfl)
theorem dX11_merge_115 : decode cX11_merge 115 = .ok (.return_, 1) := dk_177 (dk_at dksX11_merge_4 21 rfl rfl)
abbrev cX11_run : ByteArray := prog_29_method_25_code
def yX11_run : MethodName := ⟨RX11, "run", "()J"⟩
def dkwX11_run_12 : List UInt8 := [4, 167, 0, 4, 3, 160, 0, 7, 10, 167, 0, 4, 9, 173]
abbrev dktX11_run_12 : List UInt8 := dkwX11_run_12 ++ []
def dkwX11_run_11 : List UInt8 := [180, 0, 175, 16, 8, 160, 0, 9, 21, 5, 133, 167, 0, 26, 21, 6, 42, 180, 0, 175, 8, 160, 0, 7]
abbrev dktX11_run_11 : List UInt8 := dkwX11_run_11 ++ dktX11_run_12
def dkwX11_run_10 : List UInt8 := [153, 0, 11, 42, 180, 0, 175, 4, 160, 0, 5, 31, 173, 42, 180, 0, 175, 7, 163, 0, 5, 33, 173, 42]
abbrev dktX11_run_10 : List UInt8 := dkwX11_run_10 ++ dktX11_run_11
def dkwX11_run_9 : List UInt8 := [3, 54, 6, 21, 6, 154, 0, 7, 4, 167, 0, 4, 3, 54, 7, 167, 255, 35, 42, 180, 0, 175]
abbrev dktX11_run_9 : List UInt8 := dkwX11_run_9 ++ dktX11_run_10
def dkwX11_run_8 : List UInt8 := [182, 1, 23, 42, 180, 0, 175, 16, 6, 160, 0, 7, 4, 167, 0, 4, 3, 159, 0, 7, 4, 167, 0, 4]
abbrev dktX11_run_8 : List UInt8 := dkwX11_run_8 ++ dktX11_run_9
def dkwX11_run_7 : List UInt8 := [180, 0, 246, 182, 1, 66, 54, 5, 167, 255, 90, 42, 42, 180, 0, 178, 42, 180, 0, 181, 42, 180, 0, 246]
abbrev dktX11_run_7 : List UInt8 := dkwX11_run_7 ++ dktX11_run_8
def dkwX11_run_6 : List UInt8 := [167, 255, 121, 42, 180, 0, 246, 133, 66, 3, 54, 7, 167, 255, 109, 42, 42, 180, 0, 178, 21, 5, 42]
abbrev dktX11_run_6 : List UInt8 := dkwX11_run_6 ++ dktX11_run_7
def dkwX11_run_5 : List UInt8 := [20, 1, 61, 148, 153, 0, 13, 42, 180, 0, 246, 133, 33, 148, 158, 255, 130, 42, 180, 0, 246, 133, 66]
abbrev dktX11_run_5 : List UInt8 := dkwX11_run_5 ++ dktX11_run_6
def dkwX11_run_4 : List UInt8 := [153, 0, 13, 42, 180, 0, 246, 133, 33, 148, 156, 255, 157, 42, 180, 0, 246, 133, 66, 167, 255, 148, 33]
abbrev dktX11_run_4 : List UInt8 := dkwX11_run_4 ++ dktX11_run_5
def dkwX11_run_3 : List UInt8 := [31, 10, 97, 64, 167, 255, 186, 31, 42, 180, 0, 246, 133, 97, 64, 167, 255, 175, 33, 20, 1, 61, 148]
abbrev dktX11_run_3 : List UInt8 := dkwX11_run_3 ++ dktX11_run_4
def dkwX11_run_2 : List UInt8 := [170, 0, 0, 0, 0, 153, 0, 0, 0, 0, 0, 0, 0, 8, 0, 0, 0, 50, 0, 0, 0, 57, 0, 0, 0, 68, 0, 0, 0, 95, 0, 0, 0, 122, 0, 0, 0, 153, 0, 0, 0, 153, 0, 0, 0, 153, 0, 0, 0, 134]
abbrev dktX11_run_2 : List UInt8 := dkwX11_run_2 ++ dktX11_run_3
def dkwX11_run_1 : List UInt8 := [182, 1, 63, 153, 0, 215, 42, 180, 0, 175]
abbrev dktX11_run_1 : List UInt8 := dkwX11_run_1 ++ dktX11_run_2
def dkwX11_run_0 : List UInt8 := [9, 64, 20, 1, 61, 66, 42, 180, 0, 181, 54, 5, 3, 54, 6, 4, 54, 7, 21, 7, 153, 0, 222, 42]
abbrev dktX11_run_0 : List UInt8 := dkwX11_run_0 ++ dktX11_run_1
theorem dksX11_run_0 : cX11_run.data.toList.drop 0 = dktX11_run_0 := by decide +kernel
theorem dksX11_run_1 : cX11_run.data.toList.drop 24 = dktX11_run_1 := dk_seg dksX11_run_0 24 rfl rfl
theorem dksX11_run_2 : cX11_run.data.toList.drop 34 = dktX11_run_2 := dk_seg dksX11_run_1 10 rfl rfl
theorem dksX11_run_3 : cX11_run.data.toList.drop 84 = dktX11_run_3 := dk_seg dksX11_run_2 50 rfl rfl
theorem dksX11_run_4 : cX11_run.data.toList.drop 107 = dktX11_run_4 := dk_seg dksX11_run_3 23 rfl rfl
theorem dksX11_run_5 : cX11_run.data.toList.drop 130 = dktX11_run_5 := dk_seg dksX11_run_4 23 rfl rfl
theorem dksX11_run_6 : cX11_run.data.toList.drop 153 = dktX11_run_6 := dk_seg dksX11_run_5 23 rfl rfl
theorem dksX11_run_7 : cX11_run.data.toList.drop 176 = dktX11_run_7 := dk_seg dksX11_run_6 23 rfl rfl
theorem dksX11_run_8 : cX11_run.data.toList.drop 200 = dktX11_run_8 := dk_seg dksX11_run_7 24 rfl rfl
theorem dksX11_run_9 : cX11_run.data.toList.drop 224 = dktX11_run_9 := dk_seg dksX11_run_8 24 rfl rfl
theorem dksX11_run_10 : cX11_run.data.toList.drop 246 = dktX11_run_10 := dk_seg dksX11_run_9 22 rfl rfl
theorem dksX11_run_11 : cX11_run.data.toList.drop 270 = dktX11_run_11 := dk_seg dksX11_run_10 24 rfl rfl
theorem dksX11_run_12 : cX11_run.data.toList.drop 294 = dktX11_run_12 := dk_seg dksX11_run_11 24 rfl rfl
theorem dX11_run_0 : decode cX11_run 0 = .ok (.lconst 0, 1) := dk_9 (dk_at dksX11_run_0 0 rfl rfl)
theorem dX11_run_1 : decode cX11_run 1 = .ok (.lstore_n 1, 1) := dk_64 (dk_at dksX11_run_0 1 rfl rfl)
theorem dX11_run_2 : decode cX11_run 2 = .ok (.ldc2_w 317, 3) := dk_20 1 61 (dk_at dksX11_run_0 2 rfl rfl)
theorem dX11_run_5 : decode cX11_run 5 = .ok (.lstore_n 3, 1) := dk_66 (dk_at dksX11_run_0 5 rfl rfl)
theorem dX11_run_6 : decode cX11_run 6 = .ok (.aload_n 0, 1) := dk_42 (dk_at dksX11_run_0 6 rfl rfl)
theorem dX11_run_7 : decode cX11_run 7 = .ok (.getfield 181, 3) := dk_180 0 181 (dk_at dksX11_run_0 7 rfl rfl)
theorem dX11_run_10 : decode cX11_run 10 = .ok (.istore 5, 2) := dk_54 5 (dk_at dksX11_run_0 10 rfl rfl)
theorem dX11_run_12 : decode cX11_run 12 = .ok (.iconst 0, 1) := dk_3 (dk_at dksX11_run_0 12 rfl rfl)
theorem dX11_run_13 : decode cX11_run 13 = .ok (.istore 6, 2) := dk_54 6 (dk_at dksX11_run_0 13 rfl rfl)
theorem dX11_run_15 : decode cX11_run 15 = .ok (.iconst 1, 1) := dk_4 (dk_at dksX11_run_0 15 rfl rfl)
theorem dX11_run_16 : decode cX11_run 16 = .ok (.istore 7, 2) := dk_54 7 (dk_at dksX11_run_0 16 rfl rfl)
theorem dX11_run_18 : decode cX11_run 18 = .ok (.iload 7, 2) := dk_21 7 (dk_at dksX11_run_0 18 rfl rfl)
theorem dX11_run_20 : decode cX11_run 20 = .ok (.ifCond .eq 222, 3) := dk_153 0 222 (dk_at dksX11_run_0 20 rfl rfl)
theorem dX11_run_23 : decode cX11_run 23 = .ok (.aload_n 0, 1) := dk_42 (dk_at dksX11_run_0 23 rfl rfl)
theorem dX11_run_24 : decode cX11_run 24 = .ok (.invokevirtual 319, 3) := dk_182 1 63 (dk_at dksX11_run_1 0 rfl rfl)
theorem dX11_run_27 : decode cX11_run 27 = .ok (.ifCond .eq 215, 3) := dk_153 0 215 (dk_at dksX11_run_1 3 rfl rfl)
theorem dX11_run_30 : decode cX11_run 30 = .ok (.aload_n 0, 1) := dk_42 (dk_at dksX11_run_1 6 rfl rfl)
theorem dX11_run_31 : decode cX11_run 31 = .ok (.getfield 175, 3) := dk_180 0 175 (dk_at dksX11_run_1 7 rfl rfl)
theorem dX11_run_34 : decode cX11_run 34 = .ok (.tableswitch 153 0 8 #[50, 57, 68, 95, 122, 153, 153, 153, 134], 50) := by decide +kernel
theorem dX11_run_84 : decode cX11_run 84 = .ok (.lload_n 1, 1) := dk_31 (dk_at dksX11_run_3 0 rfl rfl)
theorem dX11_run_85 : decode cX11_run 85 = .ok (.lconst 1, 1) := dk_10 (dk_at dksX11_run_3 1 rfl rfl)
theorem dX11_run_86 : decode cX11_run 86 = .ok (.ladd, 1) := dk_97 (dk_at dksX11_run_3 2 rfl rfl)
theorem dX11_run_87 : decode cX11_run 87 = .ok (.lstore_n 1, 1) := dk_64 (dk_at dksX11_run_3 3 rfl rfl)
theorem dX11_run_88 : decode cX11_run 88 = .ok (.goto (-70), 3) := dk_167 255 186 (dk_at dksX11_run_3 4 rfl rfl)
theorem dX11_run_91 : decode cX11_run 91 = .ok (.lload_n 1, 1) := dk_31 (dk_at dksX11_run_3 7 rfl rfl)
theorem dX11_run_92 : decode cX11_run 92 = .ok (.aload_n 0, 1) := dk_42 (dk_at dksX11_run_3 8 rfl rfl)
theorem dX11_run_93 : decode cX11_run 93 = .ok (.getfield 246, 3) := dk_180 0 246 (dk_at dksX11_run_3 9 rfl rfl)
theorem dX11_run_96 : decode cX11_run 96 = .ok (.i2l, 1) := dk_133 (dk_at dksX11_run_3 12 rfl rfl)
theorem dX11_run_97 : decode cX11_run 97 = .ok (.ladd, 1) := dk_97 (dk_at dksX11_run_3 13 rfl rfl)
theorem dX11_run_98 : decode cX11_run 98 = .ok (.lstore_n 1, 1) := dk_64 (dk_at dksX11_run_3 14 rfl rfl)
theorem dX11_run_99 : decode cX11_run 99 = .ok (.goto (-81), 3) := dk_167 255 175 (dk_at dksX11_run_3 15 rfl rfl)
theorem dX11_run_102 : decode cX11_run 102 = .ok (.lload_n 3, 1) := dk_33 (dk_at dksX11_run_3 18 rfl rfl)
theorem dX11_run_103 : decode cX11_run 103 = .ok (.ldc2_w 317, 3) := dk_20 1 61 (dk_at dksX11_run_3 19 rfl rfl)
theorem dX11_run_106 : decode cX11_run 106 = .ok (.lcmp, 1) := dk_148 (dk_at dksX11_run_3 22 rfl rfl)
theorem dX11_run_107 : decode cX11_run 107 = .ok (.ifCond .eq 13, 3) := dk_153 0 13 (dk_at dksX11_run_4 0 rfl rfl)
theorem dX11_run_110 : decode cX11_run 110 = .ok (.aload_n 0, 1) := dk_42 (dk_at dksX11_run_4 3 rfl rfl)
theorem dX11_run_111 : decode cX11_run 111 = .ok (.getfield 246, 3) := dk_180 0 246 (dk_at dksX11_run_4 4 rfl rfl)
theorem dX11_run_114 : decode cX11_run 114 = .ok (.i2l, 1) := dk_133 (dk_at dksX11_run_4 7 rfl rfl)
theorem dX11_run_115 : decode cX11_run 115 = .ok (.lload_n 3, 1) := dk_33 (dk_at dksX11_run_4 8 rfl rfl)
theorem dX11_run_116 : decode cX11_run 116 = .ok (.lcmp, 1) := dk_148 (dk_at dksX11_run_4 9 rfl rfl)
theorem dX11_run_117 : decode cX11_run 117 = .ok (.ifCond .ge (-99), 3) := dk_156 255 157 (dk_at dksX11_run_4 10 rfl rfl)
theorem dX11_run_120 : decode cX11_run 120 = .ok (.aload_n 0, 1) := dk_42 (dk_at dksX11_run_4 13 rfl rfl)
theorem dX11_run_121 : decode cX11_run 121 = .ok (.getfield 246, 3) := dk_180 0 246 (dk_at dksX11_run_4 14 rfl rfl)
theorem dX11_run_124 : decode cX11_run 124 = .ok (.i2l, 1) := dk_133 (dk_at dksX11_run_4 17 rfl rfl)
theorem dX11_run_125 : decode cX11_run 125 = .ok (.lstore_n 3, 1) := dk_66 (dk_at dksX11_run_4 18 rfl rfl)
theorem dX11_run_126 : decode cX11_run 126 = .ok (.goto (-108), 3) := dk_167 255 148 (dk_at dksX11_run_4 19 rfl rfl)
theorem dX11_run_129 : decode cX11_run 129 = .ok (.lload_n 3, 1) := dk_33 (dk_at dksX11_run_4 22 rfl rfl)
theorem dX11_run_130 : decode cX11_run 130 = .ok (.ldc2_w 317, 3) := dk_20 1 61 (dk_at dksX11_run_5 0 rfl rfl)
theorem dX11_run_133 : decode cX11_run 133 = .ok (.lcmp, 1) := dk_148 (dk_at dksX11_run_5 3 rfl rfl)
theorem dX11_run_134 : decode cX11_run 134 = .ok (.ifCond .eq 13, 3) := dk_153 0 13 (dk_at dksX11_run_5 4 rfl rfl)
theorem dX11_run_137 : decode cX11_run 137 = .ok (.aload_n 0, 1) := dk_42 (dk_at dksX11_run_5 7 rfl rfl)
theorem dX11_run_138 : decode cX11_run 138 = .ok (.getfield 246, 3) := dk_180 0 246 (dk_at dksX11_run_5 8 rfl rfl)
theorem dX11_run_141 : decode cX11_run 141 = .ok (.i2l, 1) := dk_133 (dk_at dksX11_run_5 11 rfl rfl)
theorem dX11_run_142 : decode cX11_run 142 = .ok (.lload_n 3, 1) := dk_33 (dk_at dksX11_run_5 12 rfl rfl)
theorem dX11_run_143 : decode cX11_run 143 = .ok (.lcmp, 1) := dk_148 (dk_at dksX11_run_5 13 rfl rfl)
theorem dX11_run_144 : decode cX11_run 144 = .ok (.ifCond .le (-126), 3) := dk_158 255 130 (dk_at dksX11_run_5 14 rfl rfl)
theorem dX11_run_147 : decode cX11_run 147 = .ok (.aload_n 0, 1) := dk_42 (dk_at dksX11_run_5 17 rfl rfl)
theorem dX11_run_148 : decode cX11_run 148 = .ok (.getfield 246, 3) := dk_180 0 246 (dk_at dksX11_run_5 18 rfl rfl)
theorem dX11_run_151 : decode cX11_run 151 = .ok (.i2l, 1) := dk_133 (dk_at dksX11_run_5 21 rfl rfl)
theorem dX11_run_152 : decode cX11_run 152 = .ok (.lstore_n 3, 1) := dk_66 (dk_at dksX11_run_5 22 rfl rfl)
theorem dX11_run_153 : decode cX11_run 153 = .ok (.goto (-135), 3) := dk_167 255 121 (dk_at dksX11_run_6 0 rfl rfl)
theorem dX11_run_156 : decode cX11_run 156 = .ok (.aload_n 0, 1) := dk_42 (dk_at dksX11_run_6 3 rfl rfl)
theorem dX11_run_157 : decode cX11_run 157 = .ok (.getfield 246, 3) := dk_180 0 246 (dk_at dksX11_run_6 4 rfl rfl)
theorem dX11_run_160 : decode cX11_run 160 = .ok (.i2l, 1) := dk_133 (dk_at dksX11_run_6 7 rfl rfl)
theorem dX11_run_161 : decode cX11_run 161 = .ok (.lstore_n 3, 1) := dk_66 (dk_at dksX11_run_6 8 rfl rfl)
theorem dX11_run_162 : decode cX11_run 162 = .ok (.iconst 0, 1) := dk_3 (dk_at dksX11_run_6 9 rfl rfl)
theorem dX11_run_163 : decode cX11_run 163 = .ok (.istore 7, 2) := dk_54 7 (dk_at dksX11_run_6 10 rfl rfl)
theorem dX11_run_165 : decode cX11_run 165 = .ok (.goto (-147), 3) := dk_167 255 109 (dk_at dksX11_run_6 12 rfl rfl)
theorem dX11_run_168 : decode cX11_run 168 = .ok (.aload_n 0, 1) := dk_42 (dk_at dksX11_run_6 15 rfl rfl)
theorem dX11_run_169 : decode cX11_run 169 = .ok (.aload_n 0, 1) := dk_42 (dk_at dksX11_run_6 16 rfl rfl)
theorem dX11_run_170 : decode cX11_run 170 = .ok (.getfield 178, 3) := dk_180 0 178 (dk_at dksX11_run_6 17 rfl rfl)
theorem dX11_run_173 : decode cX11_run 173 = .ok (.iload 5, 2) := dk_21 5 (dk_at dksX11_run_6 20 rfl rfl)
theorem dX11_run_175 : decode cX11_run 175 = .ok (.aload_n 0, 1) := dk_42 (dk_at dksX11_run_6 22 rfl rfl)
theorem dX11_run_176 : decode cX11_run 176 = .ok (.getfield 246, 3) := dk_180 0 246 (dk_at dksX11_run_7 0 rfl rfl)
theorem dX11_run_179 : decode cX11_run 179 = .ok (.invokevirtual 322, 3) := dk_182 1 66 (dk_at dksX11_run_7 3 rfl rfl)
theorem dX11_run_182 : decode cX11_run 182 = .ok (.istore 5, 2) := dk_54 5 (dk_at dksX11_run_7 6 rfl rfl)
theorem dX11_run_184 : decode cX11_run 184 = .ok (.goto (-166), 3) := dk_167 255 90 (dk_at dksX11_run_7 8 rfl rfl)
theorem dX11_run_187 : decode cX11_run 187 = .ok (.aload_n 0, 1) := dk_42 (dk_at dksX11_run_7 11 rfl rfl)
theorem dX11_run_188 : decode cX11_run 188 = .ok (.aload_n 0, 1) := dk_42 (dk_at dksX11_run_7 12 rfl rfl)
theorem dX11_run_189 : decode cX11_run 189 = .ok (.getfield 178, 3) := dk_180 0 178 (dk_at dksX11_run_7 13 rfl rfl)
theorem dX11_run_192 : decode cX11_run 192 = .ok (.aload_n 0, 1) := dk_42 (dk_at dksX11_run_7 16 rfl rfl)
theorem dX11_run_193 : decode cX11_run 193 = .ok (.getfield 181, 3) := dk_180 0 181 (dk_at dksX11_run_7 17 rfl rfl)
theorem dX11_run_196 : decode cX11_run 196 = .ok (.aload_n 0, 1) := dk_42 (dk_at dksX11_run_7 20 rfl rfl)
theorem dX11_run_197 : decode cX11_run 197 = .ok (.getfield 246, 3) := dk_180 0 246 (dk_at dksX11_run_7 21 rfl rfl)
theorem dX11_run_200 : decode cX11_run 200 = .ok (.invokevirtual 279, 3) := dk_182 1 23 (dk_at dksX11_run_8 0 rfl rfl)
theorem dX11_run_203 : decode cX11_run 203 = .ok (.aload_n 0, 1) := dk_42 (dk_at dksX11_run_8 3 rfl rfl)
theorem dX11_run_204 : decode cX11_run 204 = .ok (.getfield 175, 3) := dk_180 0 175 (dk_at dksX11_run_8 4 rfl rfl)
theorem dX11_run_207 : decode cX11_run 207 = .ok (.bipush 6, 2) := dk_16 6 (dk_at dksX11_run_8 7 rfl rfl)
theorem dX11_run_209 : decode cX11_run 209 = .ok (.if_icmp .ne 7, 3) := dk_160 0 7 (dk_at dksX11_run_8 9 rfl rfl)
theorem dX11_run_212 : decode cX11_run 212 = .ok (.iconst 1, 1) := dk_4 (dk_at dksX11_run_8 12 rfl rfl)
theorem dX11_run_213 : decode cX11_run 213 = .ok (.goto 4, 3) := dk_167 0 4 (dk_at dksX11_run_8 13 rfl rfl)
theorem dX11_run_216 : decode cX11_run 216 = .ok (.iconst 0, 1) := dk_3 (dk_at dksX11_run_8 16 rfl rfl)
theorem dX11_run_217 : decode cX11_run 217 = .ok (.if_icmp .eq 7, 3) := dk_159 0 7 (dk_at dksX11_run_8 17 rfl rfl)
theorem dX11_run_220 : decode cX11_run 220 = .ok (.iconst 1, 1) := dk_4 (dk_at dksX11_run_8 20 rfl rfl)
theorem dX11_run_221 : decode cX11_run 221 = .ok (.goto 4, 3) := dk_167 0 4 (dk_at dksX11_run_8 21 rfl rfl)
theorem dX11_run_224 : decode cX11_run 224 = .ok (.iconst 0, 1) := dk_3 (dk_at dksX11_run_9 0 rfl rfl)
theorem dX11_run_225 : decode cX11_run 225 = .ok (.istore 6, 2) := dk_54 6 (dk_at dksX11_run_9 1 rfl rfl)
theorem dX11_run_227 : decode cX11_run 227 = .ok (.iload 6, 2) := dk_21 6 (dk_at dksX11_run_9 3 rfl rfl)
theorem dX11_run_229 : decode cX11_run 229 = .ok (.ifCond .ne 7, 3) := dk_154 0 7 (dk_at dksX11_run_9 5 rfl rfl)
theorem dX11_run_232 : decode cX11_run 232 = .ok (.iconst 1, 1) := dk_4 (dk_at dksX11_run_9 8 rfl rfl)
theorem dX11_run_233 : decode cX11_run 233 = .ok (.goto 4, 3) := dk_167 0 4 (dk_at dksX11_run_9 9 rfl rfl)
theorem dX11_run_236 : decode cX11_run 236 = .ok (.iconst 0, 1) := dk_3 (dk_at dksX11_run_9 12 rfl rfl)
theorem dX11_run_237 : decode cX11_run 237 = .ok (.istore 7, 2) := dk_54 7 (dk_at dksX11_run_9 13 rfl rfl)
theorem dX11_run_239 : decode cX11_run 239 = .ok (.goto (-221), 3) := dk_167 255 35 (dk_at dksX11_run_9 15 rfl rfl)
theorem dX11_run_242 : decode cX11_run 242 = .ok (.aload_n 0, 1) := dk_42 (dk_at dksX11_run_9 18 rfl rfl)
theorem dX11_run_243 : decode cX11_run 243 = .ok (.getfield 175, 3) := dk_180 0 175 (dk_at dksX11_run_9 19 rfl rfl)
theorem dX11_run_246 : decode cX11_run 246 = .ok (.ifCond .eq 11, 3) := dk_153 0 11 (dk_at dksX11_run_10 0 rfl rfl)
theorem dX11_run_249 : decode cX11_run 249 = .ok (.aload_n 0, 1) := dk_42 (dk_at dksX11_run_10 3 rfl rfl)
theorem dX11_run_250 : decode cX11_run 250 = .ok (.getfield 175, 3) := dk_180 0 175 (dk_at dksX11_run_10 4 rfl rfl)
theorem dX11_run_253 : decode cX11_run 253 = .ok (.iconst 1, 1) := dk_4 (dk_at dksX11_run_10 7 rfl rfl)
theorem dX11_run_254 : decode cX11_run 254 = .ok (.if_icmp .ne 5, 3) := dk_160 0 5 (dk_at dksX11_run_10 8 rfl rfl)
theorem dX11_run_257 : decode cX11_run 257 = .ok (.lload_n 1, 1) := dk_31 (dk_at dksX11_run_10 11 rfl rfl)
theorem dX11_run_258 : decode cX11_run 258 = .ok (.lreturn, 1) := dk_173 (dk_at dksX11_run_10 12 rfl rfl)
theorem dX11_run_259 : decode cX11_run 259 = .ok (.aload_n 0, 1) := dk_42 (dk_at dksX11_run_10 13 rfl rfl)
theorem dX11_run_260 : decode cX11_run 260 = .ok (.getfield 175, 3) := dk_180 0 175 (dk_at dksX11_run_10 14 rfl rfl)
theorem dX11_run_263 : decode cX11_run 263 = .ok (.iconst 4, 1) := dk_7 (dk_at dksX11_run_10 17 rfl rfl)
theorem dX11_run_264 : decode cX11_run 264 = .ok (.if_icmp .gt 5, 3) := dk_163 0 5 (dk_at dksX11_run_10 18 rfl rfl)
theorem dX11_run_267 : decode cX11_run 267 = .ok (.lload_n 3, 1) := dk_33 (dk_at dksX11_run_10 21 rfl rfl)
theorem dX11_run_268 : decode cX11_run 268 = .ok (.lreturn, 1) := dk_173 (dk_at dksX11_run_10 22 rfl rfl)
theorem dX11_run_269 : decode cX11_run 269 = .ok (.aload_n 0, 1) := dk_42 (dk_at dksX11_run_10 23 rfl rfl)
theorem dX11_run_270 : decode cX11_run 270 = .ok (.getfield 175, 3) := dk_180 0 175 (dk_at dksX11_run_11 0 rfl rfl)
theorem dX11_run_273 : decode cX11_run 273 = .ok (.bipush 8, 2) := dk_16 8 (dk_at dksX11_run_11 3 rfl rfl)
theorem dX11_run_275 : decode cX11_run 275 = .ok (.if_icmp .ne 9, 3) := dk_160 0 9 (dk_at dksX11_run_11 5 rfl rfl)
theorem dX11_run_278 : decode cX11_run 278 = .ok (.iload 5, 2) := dk_21 5 (dk_at dksX11_run_11 8 rfl rfl)
theorem dX11_run_280 : decode cX11_run 280 = .ok (.i2l, 1) := dk_133 (dk_at dksX11_run_11 10 rfl rfl)
theorem dX11_run_281 : decode cX11_run 281 = .ok (.goto 26, 3) := dk_167 0 26 (dk_at dksX11_run_11 11 rfl rfl)
theorem dX11_run_284 : decode cX11_run 284 = .ok (.iload 6, 2) := dk_21 6 (dk_at dksX11_run_11 14 rfl rfl)
theorem dX11_run_286 : decode cX11_run 286 = .ok (.aload_n 0, 1) := dk_42 (dk_at dksX11_run_11 16 rfl rfl)
theorem dX11_run_287 : decode cX11_run 287 = .ok (.getfield 175, 3) := dk_180 0 175 (dk_at dksX11_run_11 17 rfl rfl)
theorem dX11_run_290 : decode cX11_run 290 = .ok (.iconst 5, 1) := dk_8 (dk_at dksX11_run_11 20 rfl rfl)
theorem dX11_run_291 : decode cX11_run 291 = .ok (.if_icmp .ne 7, 3) := dk_160 0 7 (dk_at dksX11_run_11 21 rfl rfl)
theorem dX11_run_294 : decode cX11_run 294 = .ok (.iconst 1, 1) := dk_4 (dk_at dksX11_run_12 0 rfl rfl)
theorem dX11_run_295 : decode cX11_run 295 = .ok (.goto 4, 3) := dk_167 0 4 (dk_at dksX11_run_12 1 rfl rfl)
theorem dX11_run_298 : decode cX11_run 298 = .ok (.iconst 0, 1) := dk_3 (dk_at dksX11_run_12 4 rfl rfl)
theorem dX11_run_299 : decode cX11_run 299 = .ok (.if_icmp .ne 7, 3) := dk_160 0 7 (dk_at dksX11_run_12 5 rfl rfl)
theorem dX11_run_302 : decode cX11_run 302 = .ok (.lconst 1, 1) := dk_10 (dk_at dksX11_run_12 8 rfl rfl)
theorem dX11_run_303 : decode cX11_run 303 = .ok (.goto 4, 3) := dk_167 0 4 (dk_at dksX11_run_12 9 rfl rfl)
theorem dX11_run_306 : decode cX11_run 306 = .ok (.lconst 0, 1) := dk_9 (dk_at dksX11_run_12 12 rfl rfl)
theorem dX11_run_307 : decode cX11_run 307 = .ok (.lreturn, 1) := dk_173 (dk_at dksX11_run_12 13 rfl rfl)
abbrev cX11_fold : ByteArray := prog_29_method_23_code
def yX11_fold : MethodName := ⟨RX11, "fold", "(III)I"⟩
def dkwX11_fold_2 : List UInt8 := [167, 0, 6, 28, 29, 130, 172]
abbrev dktX11_fold_2 : List UInt8 := dkwX11_fold_2 ++ []
def dkwX11_fold_1 : List UInt8 := [160, 0, 9, 28, 29, 104, 167, 0, 24, 27, 5, 160, 0, 16, 28, 29, 164, 0, 7, 28, 167, 0, 10, 29]
abbrev dktX11_fold_1 : List UInt8 := dkwX11_fold_1 ++ dktX11_fold_2
def dkwX11_fold_0 : List UInt8 := [42, 89, 180, 0, 213, 4, 96, 181, 0, 213, 27, 154, 0, 9, 28, 29, 96, 167, 0, 35, 27, 4]
abbrev dktX11_fold_0 : List UInt8 := dkwX11_fold_0 ++ dktX11_fold_1
theorem dksX11_fold_0 : cX11_fold.data.toList.drop 0 = dktX11_fold_0 := by decide +kernel
theorem dksX11_fold_1 : cX11_fold.data.toList.drop 22 = dktX11_fold_1 := dk_seg dksX11_fold_0 22 rfl rfl
theorem dksX11_fold_2 : cX11_fold.data.toList.drop 46 = dktX11_fold_2 := dk_seg dksX11_fold_1 24 rfl rfl
theorem dX11_fold_0 : decode cX11_fold 0 = .ok (.aload_n 0, 1) := dk_42 (dk_at dksX11_fold_0 0 rfl rfl)
theorem dX11_fold_1 : decode cX11_fold 1 = .ok (.dup, 1) := dk_89 (dk_at dksX11_fold_0 1 rfl rfl)
theorem dX11_fold_2 : decode cX11_fold 2 = .ok (.getfield 213, 3) := dk_180 0 213 (dk_at dksX11_fold_0 2 rfl rfl)
theorem dX11_fold_5 : decode cX11_fold 5 = .ok (.iconst 1, 1) := dk_4 (dk_at dksX11_fold_0 5 rfl rfl)
theorem dX11_fold_6 : decode cX11_fold 6 = .ok (.iadd, 1) := dk_96 (dk_at dksX11_fold_0 6 rfl rfl)
theorem dX11_fold_7 : decode cX11_fold 7 = .ok (.putfield 213, 3) := dk_181 0 213 (dk_at dksX11_fold_0 7 rfl rfl)
theorem dX11_fold_10 : decode cX11_fold 10 = .ok (.iload_n 1, 1) := dk_27 (dk_at dksX11_fold_0 10 rfl rfl)
theorem dX11_fold_11 : decode cX11_fold 11 = .ok (.ifCond .ne 9, 3) := dk_154 0 9 (dk_at dksX11_fold_0 11 rfl rfl)
theorem dX11_fold_14 : decode cX11_fold 14 = .ok (.iload_n 2, 1) := dk_28 (dk_at dksX11_fold_0 14 rfl rfl)
theorem dX11_fold_15 : decode cX11_fold 15 = .ok (.iload_n 3, 1) := dk_29 (dk_at dksX11_fold_0 15 rfl rfl)
theorem dX11_fold_16 : decode cX11_fold 16 = .ok (.iadd, 1) := dk_96 (dk_at dksX11_fold_0 16 rfl rfl)
theorem dX11_fold_17 : decode cX11_fold 17 = .ok (.goto 35, 3) := dk_167 0 35 (dk_at dksX11_fold_0 17 rfl rfl)
theorem dX11_fold_20 : decode cX11_fold 20 = .ok (.iload_n 1, 1) := dk_27 (dk_at dksX11_fold_0 20 rfl rfl)
theorem dX11_fold_21 : decode cX11_fold 21 = .ok (.iconst 1, 1) := dk_4 (dk_at dksX11_fold_0 21 rfl rfl)
theorem dX11_fold_22 : decode cX11_fold 22 = .ok (.if_icmp .ne 9, 3) := dk_160 0 9 (dk_at dksX11_fold_1 0 rfl rfl)
theorem dX11_fold_25 : decode cX11_fold 25 = .ok (.iload_n 2, 1) := dk_28 (dk_at dksX11_fold_1 3 rfl rfl)
theorem dX11_fold_26 : decode cX11_fold 26 = .ok (.iload_n 3, 1) := dk_29 (dk_at dksX11_fold_1 4 rfl rfl)
theorem dX11_fold_27 : decode cX11_fold 27 = .ok (.imul, 1) := dk_104 (dk_at dksX11_fold_1 5 rfl rfl)
theorem dX11_fold_28 : decode cX11_fold 28 = .ok (.goto 24, 3) := dk_167 0 24 (dk_at dksX11_fold_1 6 rfl rfl)
theorem dX11_fold_31 : decode cX11_fold 31 = .ok (.iload_n 1, 1) := dk_27 (dk_at dksX11_fold_1 9 rfl rfl)
theorem dX11_fold_32 : decode cX11_fold 32 = .ok (.iconst 2, 1) := dk_5 (dk_at dksX11_fold_1 10 rfl rfl)
theorem dX11_fold_33 : decode cX11_fold 33 = .ok (.if_icmp .ne 16, 3) := dk_160 0 16 (dk_at dksX11_fold_1 11 rfl rfl)
theorem dX11_fold_36 : decode cX11_fold 36 = .ok (.iload_n 2, 1) := dk_28 (dk_at dksX11_fold_1 14 rfl rfl)
theorem dX11_fold_37 : decode cX11_fold 37 = .ok (.iload_n 3, 1) := dk_29 (dk_at dksX11_fold_1 15 rfl rfl)
theorem dX11_fold_38 : decode cX11_fold 38 = .ok (.if_icmp .le 7, 3) := dk_164 0 7 (dk_at dksX11_fold_1 16 rfl rfl)
theorem dX11_fold_41 : decode cX11_fold 41 = .ok (.iload_n 2, 1) := dk_28 (dk_at dksX11_fold_1 19 rfl rfl)
theorem dX11_fold_42 : decode cX11_fold 42 = .ok (.goto 10, 3) := dk_167 0 10 (dk_at dksX11_fold_1 20 rfl rfl)
theorem dX11_fold_45 : decode cX11_fold 45 = .ok (.iload_n 3, 1) := dk_29 (dk_at dksX11_fold_1 23 rfl rfl)
theorem dX11_fold_46 : decode cX11_fold 46 = .ok (.goto 6, 3) := dk_167 0 6 (dk_at dksX11_fold_2 0 rfl rfl)
theorem dX11_fold_49 : decode cX11_fold 49 = .ok (.iload_n 2, 1) := dk_28 (dk_at dksX11_fold_2 3 rfl rfl)
theorem dX11_fold_50 : decode cX11_fold 50 = .ok (.iload_n 3, 1) := dk_29 (dk_at dksX11_fold_2 4 rfl rfl)
theorem dX11_fold_51 : decode cX11_fold 51 = .ok (.ixor, 1) := dk_130 (dk_at dksX11_fold_2 5 rfl rfl)
theorem dX11_fold_52 : decode cX11_fold 52 = .ok (.ireturn, 1) := dk_172 (dk_at dksX11_fold_2 6 rfl rfl)
theorem q518 : (Jvm.Cond.initialized "LibraryDesk$Streame\x72") ∈ lw_all := lw_g (lw_at lw_m1 11 rfl) rfl
theorem q872 : (Jvm.Cond.instantiable "LibraryDesk$Streame\x72" (28 : Nat)) ∈ lw_all := lw_g (lw_at lw_m2 125 rfl) rfl
theorem q874 : (Jvm.Cond.instanceMethod ({ cls := "LibraryDesk$Streame\x72", name := "<init>", desc := "()V" } : Jvm.MethodName)) ∈ lw_all := lw_g (lw_at lw_m2 127 rfl) rfl
theorem q875 : (Jvm.Cond.code ({ cls := "LibraryDesk$Streame\x72", name := "<init>", desc := "()V" } : Jvm.MethodName) prog_29_method_1_code (1 : Nat) (Option.none : Option Jvm.ClassFile.FieldType)) ∈ lw_all := lw_g (lw_at lw_m2 128 rfl) rfl
theorem q876 : (Jvm.Cond.methodLink "LibraryDesk$Streame\x72" (3 : Nat) ({ cls := "java/lang/Object", name := "<init>", desc := "()V" } : Jvm.MethodName)) ∈ lw_all := lw_g (lw_at lw_m2 129 rfl) rfl
theorem q877 : (Jvm.Cond.classLink "LibraryDesk$Streame\x72" (9 : Nat) "LibraryDesk$Words") ∈ lw_all := lw_g (lw_at lw_m2 130 rfl) rfl
theorem q879 : (Jvm.Cond.methodLinkNest "LibraryDesk$Streame\x72" (11 : Nat) ({ cls := "LibraryDesk$Words", name := "<init>", desc := "(Z)V" } : Jvm.MethodName) "LibraryDesk") ∈ lw_tbl := lw_at lw_m2 132 rfl
theorem q899 : (Jvm.Cond.constant "LibraryDesk$Streame\x72" (40 : Nat) (40000 : Int32)) ∈ lw_all := lw_g (lw_at lw_m2 152 rfl) rfl
theorem q900 : (Jvm.Cond.fieldLink "LibraryDesk$Streame\x72" (14 : Nat) "LibraryDesk$Streame\x72" "w" "LLibraryDesk$Words;") ∈ lw_all := lw_g (lw_at lw_m2 153 rfl) rfl
theorem q901 : (Jvm.Cond.fieldLink "LibraryDesk$Streame\x72" (108 : Nat) "LibraryDesk$Streame\x72" "source" "I") ∈ lw_all := lw_g (lw_at lw_m2 154 rfl) rfl
theorem q903 : (Jvm.Cond.fieldLink "LibraryDesk$Streame\x72" (114 : Nat) "LibraryDesk$Streame\x72" "sourceA" "I") ∈ lw_all := lw_g (lw_at lw_m2 156 rfl) rfl
theorem q905 : (Jvm.Cond.fieldLink "LibraryDesk$Streame\x72" (117 : Nat) "LibraryDesk$Streame\x72" "sourceB" "I") ∈ lw_all := lw_g (lw_at lw_m2 158 rfl) rfl
theorem q906 : (Jvm.Cond.fieldLink "LibraryDesk$Streame\x72" (123 : Nat) "LibraryDesk$Streame\x72" "sourceF" "I") ∈ lw_all := lw_g (lw_at lw_m2 159 rfl) rfl
theorem q907 : (Jvm.Cond.fieldLink "LibraryDesk$Streame\x72" (126 : Nat) "LibraryDesk$Streame\x72" "sourceN" "I") ∈ lw_all := lw_g (lw_at lw_m2 160 rfl) rfl
theorem q908 : (Jvm.Cond.fieldLink "LibraryDesk$Streame\x72" (20 : Nat) "LibraryDesk$Streame\x72" "stage" "[I") ∈ lw_all := lw_g (lw_at lw_m2 161 rfl) rfl
theorem q909 : (Jvm.Cond.fieldLink "LibraryDesk$Streame\x72" (24 : Nat) "LibraryDesk$Streame\x72" "function" "[I") ∈ lw_all := lw_g (lw_at lw_m2 162 rfl) rfl
theorem q910 : (Jvm.Cond.fieldLink "LibraryDesk$Streame\x72" (27 : Nat) "LibraryDesk$Streame\x72" "numbe\x72" "[I") ∈ lw_all := lw_g (lw_at lw_m2 163 rfl) rfl
theorem q911 : (Jvm.Cond.fieldLink "LibraryDesk$Streame\x72" (147 : Nat) "LibraryDesk$Streame\x72" "stages" "I") ∈ lw_all := lw_g (lw_at lw_m2 164 rfl) rfl
theorem q912 : (Jvm.Cond.fieldLink "LibraryDesk$Streame\x72" (175 : Nat) "LibraryDesk$Streame\x72" "end" "I") ∈ lw_all := lw_g (lw_at lw_m2 165 rfl) rfl
theorem q914 : (Jvm.Cond.fieldLink "LibraryDesk$Streame\x72" (178 : Nat) "LibraryDesk$Streame\x72" "endFunction" "I") ∈ lw_all := lw_g (lw_at lw_m2 167 rfl) rfl
theorem q915 : (Jvm.Cond.fieldLink "LibraryDesk$Streame\x72" (181 : Nat) "LibraryDesk$Streame\x72" "endNumbe\x72" "I") ∈ lw_all := lw_g (lw_at lw_m2 168 rfl) rfl
theorem q917 : (Jvm.Cond.fieldLink "LibraryDesk$Streame\x72" (57 : Nat) "LibraryDesk$Streame\x72" "readF" "I") ∈ lw_all := lw_g (lw_at lw_m2 170 rfl) rfl
theorem q918 : (Jvm.Cond.fieldLink "LibraryDesk$Streame\x72" (47 : Nat) "LibraryDesk$Streame\x72" "readN" "I") ∈ lw_all := lw_g (lw_at lw_m2 171 rfl) rfl
theorem q919 : (Jvm.Cond.fieldLink "LibraryDesk$Streame\x72" (213 : Nat) "LibraryDesk$Streame\x72" "called" "I") ∈ lw_all := lw_g (lw_at lw_m2 172 rfl) rfl
theorem q921 : (Jvm.Cond.fieldLink "LibraryDesk$Streame\x72" (235 : Nat) "LibraryDesk$Streame\x72" "list" "LLibraryDesk$Places;") ∈ lw_all := lw_g (lw_at lw_m2 174 rfl) rfl
theorem q923 : (Jvm.Cond.fieldLink "LibraryDesk$Streame\x72" (222 : Nat) "LibraryDesk$Streame\x72" "map" "LLibraryDesk$Maps;") ∈ lw_all := lw_g (lw_at lw_m2 176 rfl) rfl
theorem q925 : (Jvm.Cond.fieldLink "LibraryDesk$Streame\x72" (229 : Nat) "LibraryDesk$Streame\x72" "place" "I") ∈ lw_all := lw_g (lw_at lw_m2 178 rfl) rfl
theorem q926 : (Jvm.Cond.fieldLink "LibraryDesk$Streame\x72" (216 : Nat) "LibraryDesk$Streame\x72" "given" "I") ∈ lw_all := lw_g (lw_at lw_m2 179 rfl) rfl
theorem q927 : (Jvm.Cond.fieldLink "LibraryDesk$Streame\x72" (219 : Nat) "LibraryDesk$Streame\x72" "moved" "I") ∈ lw_all := lw_g (lw_at lw_m2 180 rfl) rfl
theorem q928 : (Jvm.Cond.fieldLink "LibraryDesk$Streame\x72" (246 : Nat) "LibraryDesk$Streame\x72" "element" "I") ∈ lw_all := lw_g (lw_at lw_m2 181 rfl) rfl
theorem q930 : (Jvm.Cond.fieldLink "LibraryDesk$Streame\x72" (30 : Nat) "LibraryDesk$Streame\x72" "count" "[I") ∈ lw_all := lw_g (lw_at lw_m2 183 rfl) rfl
theorem q931 : (Jvm.Cond.fieldLink "LibraryDesk$Streame\x72" (33 : Nat) "LibraryDesk$Streame\x72" "flag" "[Z") ∈ lw_all := lw_g (lw_at lw_m2 184 rfl) rfl
theorem q932 : (Jvm.Cond.fieldLink "LibraryDesk$Streame\x72" (37 : Nat) "LibraryDesk$Streame\x72" "held" "[I") ∈ lw_all := lw_g (lw_at lw_m2 185 rfl) rfl
theorem q933 : (Jvm.Cond.fieldLink "LibraryDesk$Streame\x72" (41 : Nat) "LibraryDesk$Streame\x72" "kept" "[I") ∈ lw_all := lw_g (lw_at lw_m2 186 rfl) rfl
theorem q934 : (Jvm.Cond.fieldLink "LibraryDesk$Streame\x72" (44 : Nat) "LibraryDesk$Streame\x72" "spare" "[I") ∈ lw_all := lw_g (lw_at lw_m2 187 rfl) rfl
theorem q935 : (Jvm.Cond.fieldLink "LibraryDesk$Streame\x72" (253 : Nat) "LibraryDesk$Streame\x72" "last" "I") ∈ lw_all := lw_g (lw_at lw_m2 188 rfl) rfl
theorem q936 : (Jvm.Cond.laysFinal "LibraryDesk$Streame\x72" "LibraryDesk$Streame\x72" "w" "LLibraryDesk$Words;") ∈ lw_all := lw_g (lw_at lw_m2 189 rfl) rfl
theorem q937 : (Jvm.Cond.soleField "LibraryDesk$Streame\x72" "w") ∈ lw_all := lw_g (lw_at lw_m2 190 rfl) rfl
theorem q938 : (Jvm.Cond.lays "LibraryDesk$Streame\x72" "LibraryDesk$Streame\x72" "source" "I") ∈ lw_all := lw_g (lw_at lw_m2 191 rfl) rfl
theorem q939 : (Jvm.Cond.soleField "LibraryDesk$Streame\x72" "source") ∈ lw_all := lw_g (lw_at lw_m2 192 rfl) rfl
theorem q940 : (Jvm.Cond.lays "LibraryDesk$Streame\x72" "LibraryDesk$Streame\x72" "sourceA" "I") ∈ lw_all := lw_g (lw_at lw_m2 193 rfl) rfl
theorem q941 : (Jvm.Cond.soleField "LibraryDesk$Streame\x72" "sourceA") ∈ lw_all := lw_g (lw_at lw_m2 194 rfl) rfl
theorem q942 : (Jvm.Cond.lays "LibraryDesk$Streame\x72" "LibraryDesk$Streame\x72" "sourceB" "I") ∈ lw_all := lw_g (lw_at lw_m2 195 rfl) rfl
theorem q943 : (Jvm.Cond.soleField "LibraryDesk$Streame\x72" "sourceB") ∈ lw_all := lw_g (lw_at lw_m2 196 rfl) rfl
theorem q944 : (Jvm.Cond.lays "LibraryDesk$Streame\x72" "LibraryDesk$Streame\x72" "sourceF" "I") ∈ lw_all := lw_g (lw_at lw_m2 197 rfl) rfl
theorem q945 : (Jvm.Cond.soleField "LibraryDesk$Streame\x72" "sourceF") ∈ lw_all := lw_g (lw_at lw_m2 198 rfl) rfl
theorem q946 : (Jvm.Cond.lays "LibraryDesk$Streame\x72" "LibraryDesk$Streame\x72" "sourceN" "I") ∈ lw_all := lw_g (lw_at lw_m2 199 rfl) rfl
theorem q947 : (Jvm.Cond.soleField "LibraryDesk$Streame\x72" "sourceN") ∈ lw_all := lw_g (lw_at lw_m2 200 rfl) rfl
theorem q948 : (Jvm.Cond.laysFinal "LibraryDesk$Streame\x72" "LibraryDesk$Streame\x72" "stage" "[I") ∈ lw_all := lw_g (lw_at lw_m2 201 rfl) rfl
theorem q949 : (Jvm.Cond.soleField "LibraryDesk$Streame\x72" "stage") ∈ lw_all := lw_g (lw_at lw_m2 202 rfl) rfl
theorem q950 : (Jvm.Cond.laysFinal "LibraryDesk$Streame\x72" "LibraryDesk$Streame\x72" "function" "[I") ∈ lw_all := lw_g (lw_at lw_m2 203 rfl) rfl
theorem q951 : (Jvm.Cond.soleField "LibraryDesk$Streame\x72" "function") ∈ lw_all := lw_g (lw_at lw_m2 204 rfl) rfl
theorem q952 : (Jvm.Cond.laysFinal "LibraryDesk$Streame\x72" "LibraryDesk$Streame\x72" "numbe\x72" "[I") ∈ lw_all := lw_g (lw_at lw_m2 205 rfl) rfl
theorem q953 : (Jvm.Cond.soleField "LibraryDesk$Streame\x72" "numbe\x72") ∈ lw_all := lw_g (lw_at lw_m2 206 rfl) rfl
theorem q954 : (Jvm.Cond.lays "LibraryDesk$Streame\x72" "LibraryDesk$Streame\x72" "stages" "I") ∈ lw_all := lw_g (lw_at lw_m2 207 rfl) rfl
theorem q955 : (Jvm.Cond.soleField "LibraryDesk$Streame\x72" "stages") ∈ lw_all := lw_g (lw_at lw_m2 208 rfl) rfl
theorem q956 : (Jvm.Cond.lays "LibraryDesk$Streame\x72" "LibraryDesk$Streame\x72" "end" "I") ∈ lw_all := lw_g (lw_at lw_m2 209 rfl) rfl
theorem q957 : (Jvm.Cond.soleField "LibraryDesk$Streame\x72" "end") ∈ lw_all := lw_g (lw_at lw_m2 210 rfl) rfl
theorem q958 : (Jvm.Cond.lays "LibraryDesk$Streame\x72" "LibraryDesk$Streame\x72" "endFunction" "I") ∈ lw_all := lw_g (lw_at lw_m2 211 rfl) rfl
theorem q959 : (Jvm.Cond.soleField "LibraryDesk$Streame\x72" "endFunction") ∈ lw_all := lw_g (lw_at lw_m2 212 rfl) rfl
theorem q960 : (Jvm.Cond.lays "LibraryDesk$Streame\x72" "LibraryDesk$Streame\x72" "endNumbe\x72" "I") ∈ lw_all := lw_g (lw_at lw_m2 213 rfl) rfl
theorem q961 : (Jvm.Cond.soleField "LibraryDesk$Streame\x72" "endNumbe\x72") ∈ lw_all := lw_g (lw_at lw_m2 214 rfl) rfl
theorem q962 : (Jvm.Cond.lays "LibraryDesk$Streame\x72" "LibraryDesk$Streame\x72" "readF" "I") ∈ lw_all := lw_g (lw_at lw_m2 215 rfl) rfl
theorem q963 : (Jvm.Cond.soleField "LibraryDesk$Streame\x72" "readF") ∈ lw_all := lw_g (lw_at lw_m2 216 rfl) rfl
theorem q964 : (Jvm.Cond.lays "LibraryDesk$Streame\x72" "LibraryDesk$Streame\x72" "readN" "I") ∈ lw_all := lw_g (lw_at lw_m2 217 rfl) rfl
theorem q965 : (Jvm.Cond.soleField "LibraryDesk$Streame\x72" "readN") ∈ lw_all := lw_g (lw_at lw_m2 218 rfl) rfl
theorem q966 : (Jvm.Cond.lays "LibraryDesk$Streame\x72" "LibraryDesk$Streame\x72" "called" "I") ∈ lw_all := lw_g (lw_at lw_m2 219 rfl) rfl
theorem q967 : (Jvm.Cond.soleField "LibraryDesk$Streame\x72" "called") ∈ lw_all := lw_g (lw_at lw_m2 220 rfl) rfl
theorem q968 : (Jvm.Cond.lays "LibraryDesk$Streame\x72" "LibraryDesk$Streame\x72" "list" "LLibraryDesk$Places;") ∈ lw_all := lw_g (lw_at lw_m2 221 rfl) rfl
theorem q969 : (Jvm.Cond.soleField "LibraryDesk$Streame\x72" "list") ∈ lw_all := lw_g (lw_at lw_m2 222 rfl) rfl
theorem q970 : (Jvm.Cond.lays "LibraryDesk$Streame\x72" "LibraryDesk$Streame\x72" "map" "LLibraryDesk$Maps;") ∈ lw_all := lw_g (lw_at lw_m2 223 rfl) rfl
theorem q971 : (Jvm.Cond.soleField "LibraryDesk$Streame\x72" "map") ∈ lw_all := lw_g (lw_at lw_m2 224 rfl) rfl
theorem q972 : (Jvm.Cond.lays "LibraryDesk$Streame\x72" "LibraryDesk$Streame\x72" "place" "I") ∈ lw_all := lw_g (lw_at lw_m2 225 rfl) rfl
theorem q973 : (Jvm.Cond.soleField "LibraryDesk$Streame\x72" "place") ∈ lw_all := lw_g (lw_at lw_m2 226 rfl) rfl
theorem q974 : (Jvm.Cond.lays "LibraryDesk$Streame\x72" "LibraryDesk$Streame\x72" "given" "I") ∈ lw_all := lw_g (lw_at lw_m2 227 rfl) rfl
theorem q975 : (Jvm.Cond.soleField "LibraryDesk$Streame\x72" "given") ∈ lw_all := lw_g (lw_at lw_m2 228 rfl) rfl
theorem q976 : (Jvm.Cond.lays "LibraryDesk$Streame\x72" "LibraryDesk$Streame\x72" "moved" "I") ∈ lw_all := lw_g (lw_at lw_m2 229 rfl) rfl
theorem q977 : (Jvm.Cond.soleField "LibraryDesk$Streame\x72" "moved") ∈ lw_all := lw_g (lw_at lw_m2 230 rfl) rfl
theorem q978 : (Jvm.Cond.lays "LibraryDesk$Streame\x72" "LibraryDesk$Streame\x72" "element" "I") ∈ lw_all := lw_g (lw_at lw_m2 231 rfl) rfl
theorem q979 : (Jvm.Cond.soleField "LibraryDesk$Streame\x72" "element") ∈ lw_all := lw_g (lw_at lw_m2 232 rfl) rfl
theorem q980 : (Jvm.Cond.laysFinal "LibraryDesk$Streame\x72" "LibraryDesk$Streame\x72" "count" "[I") ∈ lw_all := lw_g (lw_at lw_m2 233 rfl) rfl
theorem q981 : (Jvm.Cond.soleField "LibraryDesk$Streame\x72" "count") ∈ lw_all := lw_g (lw_at lw_m2 234 rfl) rfl
theorem q982 : (Jvm.Cond.laysFinal "LibraryDesk$Streame\x72" "LibraryDesk$Streame\x72" "flag" "[Z") ∈ lw_all := lw_g (lw_at lw_m2 235 rfl) rfl
theorem q983 : (Jvm.Cond.soleField "LibraryDesk$Streame\x72" "flag") ∈ lw_all := lw_g (lw_at lw_m2 236 rfl) rfl
theorem q984 : (Jvm.Cond.laysFinal "LibraryDesk$Streame\x72" "LibraryDesk$Streame\x72" "held" "[I") ∈ lw_all := lw_g (lw_at lw_m2 237 rfl) rfl
theorem q985 : (Jvm.Cond.soleField "LibraryDesk$Streame\x72" "held") ∈ lw_all := lw_g (lw_at lw_m2 238 rfl) rfl
theorem q986 : (Jvm.Cond.laysFinal "LibraryDesk$Streame\x72" "LibraryDesk$Streame\x72" "kept" "[I") ∈ lw_all := lw_g (lw_at lw_m2 239 rfl) rfl
theorem q987 : (Jvm.Cond.soleField "LibraryDesk$Streame\x72" "kept") ∈ lw_all := lw_g (lw_at lw_m3 0 rfl) rfl
theorem q988 : (Jvm.Cond.laysFinal "LibraryDesk$Streame\x72" "LibraryDesk$Streame\x72" "spare" "[I") ∈ lw_all := lw_g (lw_at lw_m3 1 rfl) rfl
theorem q989 : (Jvm.Cond.soleField "LibraryDesk$Streame\x72" "spare") ∈ lw_all := lw_g (lw_at lw_m3 2 rfl) rfl
theorem q990 : (Jvm.Cond.lays "LibraryDesk$Streame\x72" "LibraryDesk$Streame\x72" "last" "I") ∈ lw_all := lw_g (lw_at lw_m3 3 rfl) rfl
theorem q991 : (Jvm.Cond.soleField "LibraryDesk$Streame\x72" "last") ∈ lw_all := lw_g (lw_at lw_m3 4 rfl) rfl
theorem q992 : (Jvm.Cond.superclass "LibraryDesk$Streame\x72" "java/lang/Object") ∈ lw_all := lw_g (lw_at lw_m3 5 rfl) rfl
theorem q3907 : (Jvm.Cond.privateMethod ({ cls := "LibraryDesk$Streame\x72", name := "read", desc := "([BI)V" } : Jvm.MethodName)) ∈ lw_tbl := lw_at lw_m15 40 rfl
theorem q3908 : (Jvm.Cond.instanceMethod ({ cls := "LibraryDesk$Streame\x72", name := "read", desc := "([BI)V" } : Jvm.MethodName)) ∈ lw_all := lw_g (lw_at lw_m15 41 rfl) rfl
theorem q3909 : (Jvm.Cond.code ({ cls := "LibraryDesk$Streame\x72", name := "read", desc := "([BI)V" } : Jvm.MethodName) prog_29_method_9_code (4 : Nat) (Option.none : Option Jvm.ClassFile.FieldType)) ∈ lw_all := lw_g (lw_at lw_m15 42 rfl) rfl
theorem q3910 : (Jvm.Cond.methodLinkNest "LibraryDesk$Streame\x72" (186 : Nat) ({ cls := "LibraryDesk$Words", name := "begin", desc := "([BI)V" } : Jvm.MethodName) "LibraryDesk") ∈ lw_tbl := lw_at lw_m15 43 rfl
theorem q3918 : (Jvm.Cond.methodLink "LibraryDesk$Streame\x72" (190 : Nat) ({ cls := "LibraryDesk$Streame\x72", name := "readSource", desc := "()V" } : Jvm.MethodName)) ∈ lw_all := lw_g (lw_at lw_m15 51 rfl) rfl
theorem q3919 : (Jvm.Cond.privateMethod ({ cls := "LibraryDesk$Streame\x72", name := "readSource", desc := "()V" } : Jvm.MethodName)) ∈ lw_tbl := lw_at lw_m15 52 rfl
theorem q3920 : (Jvm.Cond.instanceMethod ({ cls := "LibraryDesk$Streame\x72", name := "readSource", desc := "()V" } : Jvm.MethodName)) ∈ lw_all := lw_g (lw_at lw_m15 53 rfl) rfl
theorem q3921 : (Jvm.Cond.code ({ cls := "LibraryDesk$Streame\x72", name := "readSource", desc := "()V" } : Jvm.MethodName) prog_29_method_4_code (1 : Nat) (Option.none : Option Jvm.ClassFile.FieldType)) ∈ lw_all := lw_g (lw_at lw_m15 54 rfl) rfl
theorem q3922 : (Jvm.Cond.stringRef "LibraryDesk$Streame\x72" (98 : Nat) "range") ∈ lw_tbl := lw_at lw_m15 55 rfl
theorem q3923 : (Jvm.Cond.methodLinkNest "LibraryDesk$Streame\x72" (64 : Nat) ({ cls := "LibraryDesk$Words", name := "is", desc := "(Ljava/lang/String;)Z" } : Jvm.MethodName) "LibraryDesk") ∈ lw_tbl := lw_at lw_m15 56 rfl
theorem q3929 : (Jvm.Cond.stringRef "LibraryDesk$Streame\x72" (100 : Nat) "list") ∈ lw_tbl := lw_at lw_m15 62 rfl
theorem q3930 : (Jvm.Cond.stringRef "LibraryDesk$Streame\x72" (102 : Nat) "keys") ∈ lw_tbl := lw_at lw_m15 63 rfl
theorem q3931 : (Jvm.Cond.stringRef "LibraryDesk$Streame\x72" (104 : Nat) "values") ∈ lw_tbl := lw_at lw_m15 64 rfl
theorem q3932 : (Jvm.Cond.stringRef "LibraryDesk$Streame\x72" (106 : Nat) "iterate") ∈ lw_tbl := lw_at lw_m15 65 rfl
theorem q3933 : (Jvm.Cond.methodLinkNest "LibraryDesk$Streame\x72" (73 : Nat) ({ cls := "LibraryDesk$Words", name := "broken", desc := "()LLibraryDesk$Broken;" } : Jvm.MethodName) "LibraryDesk") ∈ lw_tbl := lw_at lw_m15 66 rfl
theorem q3939 : (Jvm.Cond.methodLinkNest "LibraryDesk$Streame\x72" (77 : Nat) ({ cls := "LibraryDesk$Words", name := "next", desc := "()V" } : Jvm.MethodName) "LibraryDesk") ∈ lw_tbl := lw_at lw_m15 72 rfl
theorem q3940 : (Jvm.Cond.methodLinkNest "LibraryDesk$Streame\x72" (80 : Nat) ({ cls := "LibraryDesk$Words", name := "any", desc := "()I" } : Jvm.MethodName) "LibraryDesk") ∈ lw_tbl := lw_at lw_m15 73 rfl
theorem q3951 : (Jvm.Cond.methodLinkNest "LibraryDesk$Streame\x72" (111 : Nat) ({ cls := "LibraryDesk$Words", name := "numbe\x72", desc := "(II)I" } : Jvm.MethodName) "LibraryDesk") ∈ lw_tbl := lw_at lw_m15 84 rfl
theorem q3952 : (Jvm.Cond.methodLink "LibraryDesk$Streame\x72" (120 : Nat) ({ cls := "LibraryDesk$Streame\x72", name := "mapping", desc := "()V" } : Jvm.MethodName)) ∈ lw_all := lw_g (lw_at lw_m15 85 rfl) rfl
theorem q3953 : (Jvm.Cond.privateMethod ({ cls := "LibraryDesk$Streame\x72", name := "mapping", desc := "()V" } : Jvm.MethodName)) ∈ lw_tbl := lw_at lw_m15 86 rfl
theorem q3954 : (Jvm.Cond.instanceMethod ({ cls := "LibraryDesk$Streame\x72", name := "mapping", desc := "()V" } : Jvm.MethodName)) ∈ lw_all := lw_g (lw_at lw_m15 87 rfl) rfl
theorem q3955 : (Jvm.Cond.code ({ cls := "LibraryDesk$Streame\x72", name := "mapping", desc := "()V" } : Jvm.MethodName) prog_29_method_3_code (1 : Nat) (Option.none : Option Jvm.ClassFile.FieldType)) ∈ lw_all := lw_g (lw_at lw_m15 88 rfl) rfl
theorem q3956 : (Jvm.Cond.stringRef "LibraryDesk$Streame\x72" (84 : Nat) "neg") ∈ lw_tbl := lw_at lw_m15 89 rfl
theorem q3957 : (Jvm.Cond.methodLinkNest "LibraryDesk$Streame\x72" (53 : Nat) ({ cls := "LibraryDesk$Words", name := "take", desc := "(Ljava/lang/String;)Z" } : Jvm.MethodName) "LibraryDesk") ∈ lw_tbl := lw_at lw_m15 90 rfl
theorem q3962 : (Jvm.Cond.stringRef "LibraryDesk$Streame\x72" (86 : Nat) "abs") ∈ lw_tbl := lw_at lw_m15 95 rfl
theorem q3963 : (Jvm.Cond.stringRef "LibraryDesk$Streame\x72" (88 : Nat) "+") ∈ lw_tbl := lw_at lw_m15 96 rfl
theorem q3964 : (Jvm.Cond.stringRef "LibraryDesk$Streame\x72" (90 : Nat) "-") ∈ lw_tbl := lw_at lw_m15 97 rfl
theorem q3965 : (Jvm.Cond.stringRef "LibraryDesk$Streame\x72" (92 : Nat) "*") ∈ lw_tbl := lw_at lw_m15 98 rfl
theorem q3966 : (Jvm.Cond.stringRef "LibraryDesk$Streame\x72" (94 : Nat) "/") ∈ lw_tbl := lw_at lw_m15 99 rfl
theorem q3967 : (Jvm.Cond.stringRef "LibraryDesk$Streame\x72" (96 : Nat) "%") ∈ lw_tbl := lw_at lw_m15 100 rfl
theorem q3968 : (Jvm.Cond.stringRef "LibraryDesk$Streame\x72" (193 : Nat) "|") ∈ lw_tbl := lw_at lw_m15 101 rfl
theorem q3969 : (Jvm.Cond.methodLinkNest "LibraryDesk$Streame\x72" (195 : Nat) ({ cls := "LibraryDesk$Words", name := "need", desc := "(Ljava/lang/String;)V" } : Jvm.MethodName) "LibraryDesk") ∈ lw_tbl := lw_at lw_m15 102 rfl
theorem q3974 : (Jvm.Cond.methodLink "LibraryDesk$Streame\x72" (199 : Nat) ({ cls := "LibraryDesk$Streame\x72", name := "stageOf", desc := "()I" } : Jvm.MethodName)) ∈ lw_all := lw_g (lw_at lw_m15 107 rfl) rfl
theorem q3975 : (Jvm.Cond.privateMethod ({ cls := "LibraryDesk$Streame\x72", name := "stageOf", desc := "()I" } : Jvm.MethodName)) ∈ lw_tbl := lw_at lw_m15 108 rfl
theorem q3976 : (Jvm.Cond.instanceMethod ({ cls := "LibraryDesk$Streame\x72", name := "stageOf", desc := "()I" } : Jvm.MethodName)) ∈ lw_all := lw_g (lw_at lw_m15 109 rfl) rfl
theorem q3977 : (Jvm.Cond.code ({ cls := "LibraryDesk$Streame\x72", name := "stageOf", desc := "()I" } : Jvm.MethodName) prog_29_method_5_code (1 : Nat) (Option.some Jvm.ClassFile.FieldType.int)) ∈ lw_all := lw_g (lw_at lw_m15 110 rfl) rfl
theorem q3978 : (Jvm.Cond.stringRef "LibraryDesk$Streame\x72" (129 : Nat) "filte\x72") ∈ lw_tbl := lw_at lw_m15 111 rfl
theorem q3979 : (Jvm.Cond.stringRef "LibraryDesk$Streame\x72" (131 : Nat) "map") ∈ lw_tbl := lw_at lw_m15 112 rfl
theorem q3980 : (Jvm.Cond.stringRef "LibraryDesk$Streame\x72" (133 : Nat) "copies") ∈ lw_tbl := lw_at lw_m15 113 rfl
theorem q3981 : (Jvm.Cond.stringRef "LibraryDesk$Streame\x72" (135 : Nat) "distinct") ∈ lw_tbl := lw_at lw_m15 114 rfl
theorem q3982 : (Jvm.Cond.stringRef "LibraryDesk$Streame\x72" (137 : Nat) "sorted") ∈ lw_tbl := lw_at lw_m15 115 rfl
theorem q3983 : (Jvm.Cond.stringRef "LibraryDesk$Streame\x72" (139 : Nat) "limit") ∈ lw_tbl := lw_at lw_m15 116 rfl
theorem q3984 : (Jvm.Cond.stringRef "LibraryDesk$Streame\x72" (141 : Nat) "skip") ∈ lw_tbl := lw_at lw_m15 117 rfl
theorem q3985 : (Jvm.Cond.stringRef "LibraryDesk$Streame\x72" (143 : Nat) "while") ∈ lw_tbl := lw_at lw_m15 118 rfl
theorem q3986 : (Jvm.Cond.stringRef "LibraryDesk$Streame\x72" (145 : Nat) "until") ∈ lw_tbl := lw_at lw_m15 119 rfl
theorem q3987 : (Jvm.Cond.methodLink "LibraryDesk$Streame\x72" (202 : Nat) ({ cls := "LibraryDesk$Streame\x72", name := "readStage", desc := "(I)V" } : Jvm.MethodName)) ∈ lw_all := lw_g (lw_at lw_m15 120 rfl) rfl
theorem q3988 : (Jvm.Cond.privateMethod ({ cls := "LibraryDesk$Streame\x72", name := "readStage", desc := "(I)V" } : Jvm.MethodName)) ∈ lw_tbl := lw_at lw_m15 121 rfl
theorem q3989 : (Jvm.Cond.instanceMethod ({ cls := "LibraryDesk$Streame\x72", name := "readStage", desc := "(I)V" } : Jvm.MethodName)) ∈ lw_all := lw_g (lw_at lw_m15 122 rfl) rfl
theorem q3990 : (Jvm.Cond.code ({ cls := "LibraryDesk$Streame\x72", name := "readStage", desc := "(I)V" } : Jvm.MethodName) prog_29_method_6_code (2 : Nat) (Option.none : Option Jvm.ClassFile.FieldType)) ∈ lw_all := lw_g (lw_at lw_m15 123 rfl) rfl
theorem q3991 : (Jvm.Cond.methodLink "LibraryDesk$Streame\x72" (150 : Nat) ({ cls := "LibraryDesk$Streame\x72", name := "predicate", desc := "()V" } : Jvm.MethodName)) ∈ lw_all := lw_g (lw_at lw_m15 124 rfl) rfl
theorem q3992 : (Jvm.Cond.privateMethod ({ cls := "LibraryDesk$Streame\x72", name := "predicate", desc := "()V" } : Jvm.MethodName)) ∈ lw_tbl := lw_at lw_m15 125 rfl
theorem q3993 : (Jvm.Cond.instanceMethod ({ cls := "LibraryDesk$Streame\x72", name := "predicate", desc := "()V" } : Jvm.MethodName)) ∈ lw_all := lw_g (lw_at lw_m15 126 rfl) rfl
theorem q3994 : (Jvm.Cond.code ({ cls := "LibraryDesk$Streame\x72", name := "predicate", desc := "()V" } : Jvm.MethodName) prog_29_method_2_code (1 : Nat) (Option.none : Option Jvm.ClassFile.FieldType)) ∈ lw_all := lw_g (lw_at lw_m15 127 rfl) rfl
theorem q3995 : (Jvm.Cond.stringRef "LibraryDesk$Streame\x72" (51 : Nat) "even") ∈ lw_tbl := lw_at lw_m15 128 rfl
theorem q3996 : (Jvm.Cond.stringRef "LibraryDesk$Streame\x72" (60 : Nat) "odd") ∈ lw_tbl := lw_at lw_m15 129 rfl
theorem q3997 : (Jvm.Cond.stringRef "LibraryDesk$Streame\x72" (62 : Nat) ">") ∈ lw_tbl := lw_at lw_m15 130 rfl
theorem q3998 : (Jvm.Cond.stringRef "LibraryDesk$Streame\x72" (67 : Nat) "<") ∈ lw_tbl := lw_at lw_m15 131 rfl
theorem q3999 : (Jvm.Cond.stringRef "LibraryDesk$Streame\x72" (69 : Nat) "=") ∈ lw_tbl := lw_at lw_m15 132 rfl
theorem q4000 : (Jvm.Cond.stringRef "LibraryDesk$Streame\x72" (71 : Nat) "div") ∈ lw_tbl := lw_at lw_m15 133 rfl
theorem q4001 : (Jvm.Cond.constant "LibraryDesk$Streame\x72" (153 : Nat) (999999999 : Int32)) ∈ lw_all := lw_g (lw_at lw_m15 134 rfl) rfl
theorem q4002 : (Jvm.Cond.methodLink "LibraryDesk$Streame\x72" (206 : Nat) ({ cls := "LibraryDesk$Streame\x72", name := "readEnd", desc := "()V" } : Jvm.MethodName)) ∈ lw_all := lw_g (lw_at lw_m15 135 rfl) rfl
theorem q4003 : (Jvm.Cond.privateMethod ({ cls := "LibraryDesk$Streame\x72", name := "readEnd", desc := "()V" } : Jvm.MethodName)) ∈ lw_tbl := lw_at lw_m15 136 rfl
theorem q4004 : (Jvm.Cond.instanceMethod ({ cls := "LibraryDesk$Streame\x72", name := "readEnd", desc := "()V" } : Jvm.MethodName)) ∈ lw_all := lw_g (lw_at lw_m15 137 rfl) rfl
theorem q4005 : (Jvm.Cond.code ({ cls := "LibraryDesk$Streame\x72", name := "readEnd", desc := "()V" } : Jvm.MethodName) prog_29_method_8_code (1 : Nat) (Option.none : Option Jvm.ClassFile.FieldType)) ∈ lw_all := lw_g (lw_at lw_m15 138 rfl) rfl
theorem q4006 : (Jvm.Cond.methodLink "LibraryDesk$Streame\x72" (172 : Nat) ({ cls := "LibraryDesk$Streame\x72", name := "endOf", desc := "()I" } : Jvm.MethodName)) ∈ lw_all := lw_g (lw_at lw_m15 139 rfl) rfl
theorem q4007 : (Jvm.Cond.privateMethod ({ cls := "LibraryDesk$Streame\x72", name := "endOf", desc := "()I" } : Jvm.MethodName)) ∈ lw_tbl := lw_at lw_m15 140 rfl
theorem q4008 : (Jvm.Cond.instanceMethod ({ cls := "LibraryDesk$Streame\x72", name := "endOf", desc := "()I" } : Jvm.MethodName)) ∈ lw_all := lw_g (lw_at lw_m15 141 rfl) rfl
theorem q4009 : (Jvm.Cond.code ({ cls := "LibraryDesk$Streame\x72", name := "endOf", desc := "()I" } : Jvm.MethodName) prog_29_method_7_code (1 : Nat) (Option.some Jvm.ClassFile.FieldType.int)) ∈ lw_all := lw_g (lw_at lw_m15 142 rfl) rfl
theorem q4010 : (Jvm.Cond.stringRef "LibraryDesk$Streame\x72" (154 : Nat) "count") ∈ lw_tbl := lw_at lw_m15 143 rfl
theorem q4011 : (Jvm.Cond.stringRef "LibraryDesk$Streame\x72" (155 : Nat) "sum") ∈ lw_tbl := lw_at lw_m15 144 rfl
theorem q4012 : (Jvm.Cond.stringRef "LibraryDesk$Streame\x72" (157 : Nat) "least") ∈ lw_tbl := lw_at lw_m15 145 rfl
theorem q4013 : (Jvm.Cond.stringRef "LibraryDesk$Streame\x72" (159 : Nat) "greatest") ∈ lw_tbl := lw_at lw_m15 146 rfl
theorem q4014 : (Jvm.Cond.stringRef "LibraryDesk$Streame\x72" (161 : Nat) "first") ∈ lw_tbl := lw_at lw_m15 147 rfl
theorem q4015 : (Jvm.Cond.stringRef "LibraryDesk$Streame\x72" (163 : Nat) "any") ∈ lw_tbl := lw_at lw_m15 148 rfl
theorem q4016 : (Jvm.Cond.stringRef "LibraryDesk$Streame\x72" (164 : Nat) "all") ∈ lw_tbl := lw_at lw_m15 149 rfl
theorem q4017 : (Jvm.Cond.stringRef "LibraryDesk$Streame\x72" (166 : Nat) "none") ∈ lw_tbl := lw_at lw_m15 150 rfl
theorem q4018 : (Jvm.Cond.stringRef "LibraryDesk$Streame\x72" (168 : Nat) "fold") ∈ lw_tbl := lw_at lw_m15 151 rfl
theorem q4019 : (Jvm.Cond.stringRef "LibraryDesk$Streame\x72" (170 : Nat) "group") ∈ lw_tbl := lw_at lw_m15 152 rfl
theorem q4020 : (Jvm.Cond.stringRef "LibraryDesk$Streame\x72" (184 : Nat) "^") ∈ lw_tbl := lw_at lw_m15 153 rfl
theorem q4021 : (Jvm.Cond.methodLinkNest "LibraryDesk$Streame\x72" (209 : Nat) ({ cls := "LibraryDesk$Words", name := "isEnd", desc := "()Z" } : Jvm.MethodName) "LibraryDesk") ∈ lw_tbl := lw_at lw_m15 154 rfl
theorem q4026 : (Jvm.Cond.privateMethod ({ cls := "LibraryDesk$Streame\x72", name := "begin", desc := "()V" } : Jvm.MethodName)) ∈ lw_tbl := lw_at lw_m15 159 rfl
theorem q4027 : (Jvm.Cond.instanceMethod ({ cls := "LibraryDesk$Streame\x72", name := "begin", desc := "()V" } : Jvm.MethodName)) ∈ lw_all := lw_g (lw_at lw_m15 160 rfl) rfl
theorem q4028 : (Jvm.Cond.code ({ cls := "LibraryDesk$Streame\x72", name := "begin", desc := "()V" } : Jvm.MethodName) prog_29_method_10_code (2 : Nat) (Option.none : Option Jvm.ClassFile.FieldType)) ∈ lw_all := lw_g (lw_at lw_m15 161 rfl) rfl
theorem q4029 : (Jvm.Cond.methodLink "LibraryDesk$Streame\x72" (225 : Nat) ({ cls := "LibraryDesk$Maps", name := "first", desc := "()I" } : Jvm.MethodName)) ∈ lw_all := lw_g (lw_at lw_m15 162 rfl) rfl
theorem q4035 : (Jvm.Cond.privateMethod ({ cls := "LibraryDesk$Streame\x72", name := "fill", desc := "([I)I" } : Jvm.MethodName)) ∈ lw_tbl := lw_at lw_m15 168 rfl
theorem q4036 : (Jvm.Cond.instanceMethod ({ cls := "LibraryDesk$Streame\x72", name := "fill", desc := "([I)I" } : Jvm.MethodName)) ∈ lw_all := lw_g (lw_at lw_m15 169 rfl) rfl
theorem q4037 : (Jvm.Cond.code ({ cls := "LibraryDesk$Streame\x72", name := "fill", desc := "([I)I" } : Jvm.MethodName) prog_29_method_26_code (3 : Nat) (Option.some Jvm.ClassFile.FieldType.int)) ∈ lw_all := lw_g (lw_at lw_m15 170 rfl) rfl
theorem q4038 : (Jvm.Cond.methodLink "LibraryDesk$Streame\x72" (319 : Nat) ({ cls := "LibraryDesk$Streame\x72", name := "more", desc := "()Z" } : Jvm.MethodName)) ∈ lw_all := lw_g (lw_at lw_m15 171 rfl) rfl
theorem q4039 : (Jvm.Cond.privateMethod ({ cls := "LibraryDesk$Streame\x72", name := "more", desc := "()Z" } : Jvm.MethodName)) ∈ lw_tbl := lw_at lw_m15 172 rfl
theorem q4040 : (Jvm.Cond.instanceMethod ({ cls := "LibraryDesk$Streame\x72", name := "more", desc := "()Z" } : Jvm.MethodName)) ∈ lw_all := lw_g (lw_at lw_m15 173 rfl) rfl
theorem q4041 : (Jvm.Cond.code ({ cls := "LibraryDesk$Streame\x72", name := "more", desc := "()Z" } : Jvm.MethodName) prog_29_method_24_code (1 : Nat) (Option.some Jvm.ClassFile.FieldType.boolean)) ∈ lw_all := lw_g (lw_at lw_m15 174 rfl) rfl
theorem q4042 : (Jvm.Cond.methodLink "LibraryDesk$Streame\x72" (276 : Nat) ({ cls := "LibraryDesk$Streame\x72", name := "pull", desc := "(I)Z" } : Jvm.MethodName)) ∈ lw_all := lw_g (lw_at lw_m15 175 rfl) rfl
theorem q4043 : (Jvm.Cond.privateMethod ({ cls := "LibraryDesk$Streame\x72", name := "pull", desc := "(I)Z" } : Jvm.MethodName)) ∈ lw_tbl := lw_at lw_m15 176 rfl
theorem q4044 : (Jvm.Cond.instanceMethod ({ cls := "LibraryDesk$Streame\x72", name := "pull", desc := "(I)Z" } : Jvm.MethodName)) ∈ lw_all := lw_g (lw_at lw_m15 177 rfl) rfl
theorem q4045 : (Jvm.Cond.code ({ cls := "LibraryDesk$Streame\x72", name := "pull", desc := "(I)Z" } : Jvm.MethodName) prog_29_method_15_code (2 : Nat) (Option.some Jvm.ClassFile.FieldType.boolean)) ∈ lw_all := lw_g (lw_at lw_m15 178 rfl) rfl
theorem q4046 : (Jvm.Cond.methodLink "LibraryDesk$Streame\x72" (268 : Nat) ({ cls := "LibraryDesk$Streame\x72", name := "pullSource", desc := "()Z" } : Jvm.MethodName)) ∈ lw_all := lw_g (lw_at lw_m15 179 rfl) rfl
theorem q4047 : (Jvm.Cond.privateMethod ({ cls := "LibraryDesk$Streame\x72", name := "pullSource", desc := "()Z" } : Jvm.MethodName)) ∈ lw_tbl := lw_at lw_m15 180 rfl
theorem q4048 : (Jvm.Cond.instanceMethod ({ cls := "LibraryDesk$Streame\x72", name := "pullSource", desc := "()Z" } : Jvm.MethodName)) ∈ lw_all := lw_g (lw_at lw_m15 181 rfl) rfl
theorem q4049 : (Jvm.Cond.code ({ cls := "LibraryDesk$Streame\x72", name := "pullSource", desc := "()Z" } : Jvm.MethodName) prog_29_method_14_code (1 : Nat) (Option.some Jvm.ClassFile.FieldType.boolean)) ∈ lw_all := lw_g (lw_at lw_m15 182 rfl) rfl
theorem q4050 : (Jvm.Cond.methodLink "LibraryDesk$Streame\x72" (243 : Nat) ({ cls := "LibraryDesk$Streame\x72", name := "hasMore", desc := "()Z" } : Jvm.MethodName)) ∈ lw_all := lw_g (lw_at lw_m15 183 rfl) rfl
theorem q4051 : (Jvm.Cond.privateMethod ({ cls := "LibraryDesk$Streame\x72", name := "hasMore", desc := "()Z" } : Jvm.MethodName)) ∈ lw_tbl := lw_at lw_m15 184 rfl
theorem q4052 : (Jvm.Cond.instanceMethod ({ cls := "LibraryDesk$Streame\x72", name := "hasMore", desc := "()Z" } : Jvm.MethodName)) ∈ lw_all := lw_g (lw_at lw_m15 185 rfl) rfl
theorem q4053 : (Jvm.Cond.code ({ cls := "LibraryDesk$Streame\x72", name := "hasMore", desc := "()Z" } : Jvm.MethodName) prog_29_method_13_code (1 : Nat) (Option.some Jvm.ClassFile.FieldType.boolean)) ∈ lw_all := lw_g (lw_at lw_m15 186 rfl) rfl
theorem q4054 : (Jvm.Cond.methodLink "LibraryDesk$Streame\x72" (238 : Nat) ({ cls := "LibraryDesk$Places", name := "size", desc := "()I" } : Jvm.MethodName)) ∈ lw_all := lw_g (lw_at lw_m15 187 rfl) rfl
theorem q4055 : (Jvm.Cond.methodLinkNest "LibraryDesk$Streame\x72" (232 : Nat) ({ cls := "LibraryDesk", name := "sound", desc := "(Z)V" } : Jvm.MethodName) "LibraryDesk") ∈ lw_tbl := lw_at lw_m15 188 rfl
theorem q4056 : (Jvm.Cond.methodLink "LibraryDesk$Streame\x72" (249 : Nat) ({ cls := "LibraryDesk$Places", name := "get", desc := "(I)I" } : Jvm.MethodName)) ∈ lw_all := lw_g (lw_at lw_m15 189 rfl) rfl
theorem q4057 : (Jvm.Cond.methodLink "LibraryDesk$Streame\x72" (256 : Nat) ({ cls := "LibraryDesk$Streame\x72", name := "apply", desc := "(III)I" } : Jvm.MethodName)) ∈ lw_all := lw_g (lw_at lw_m15 190 rfl) rfl
theorem q4058 : (Jvm.Cond.privateMethod ({ cls := "LibraryDesk$Streame\x72", name := "apply", desc := "(III)I" } : Jvm.MethodName)) ∈ lw_tbl := lw_at lw_m15 191 rfl
theorem q4059 : (Jvm.Cond.instanceMethod ({ cls := "LibraryDesk$Streame\x72", name := "apply", desc := "(III)I" } : Jvm.MethodName)) ∈ lw_all := lw_g (lw_at lw_m15 192 rfl) rfl
theorem q4060 : (Jvm.Cond.code ({ cls := "LibraryDesk$Streame\x72", name := "apply", desc := "(III)I" } : Jvm.MethodName) prog_29_method_12_code (4 : Nat) (Option.some Jvm.ClassFile.FieldType.int)) ∈ lw_all := lw_g (lw_at lw_m15 193 rfl) rfl
theorem q4061 : (Jvm.Cond.methodLink "LibraryDesk$Streame\x72" (260 : Nat) ({ cls := "LibraryDesk$Maps", name := "key", desc := "(I)I" } : Jvm.MethodName)) ∈ lw_all := lw_g (lw_at lw_m15 194 rfl) rfl
theorem q4062 : (Jvm.Cond.methodLink "LibraryDesk$Streame\x72" (263 : Nat) ({ cls := "LibraryDesk$Maps", name := "value", desc := "(I)I" } : Jvm.MethodName)) ∈ lw_all := lw_g (lw_at lw_m15 195 rfl) rfl
theorem q4063 : (Jvm.Cond.methodLink "LibraryDesk$Streame\x72" (266 : Nat) ({ cls := "LibraryDesk$Maps", name := "next", desc := "(I)I" } : Jvm.MethodName)) ∈ lw_all := lw_g (lw_at lw_m15 196 rfl) rfl
theorem q4064 : (Jvm.Cond.methodLink "LibraryDesk$Streame\x72" (271 : Nat) ({ cls := "LibraryDesk$Streame\x72", name := "comes", desc := "(I)Z" } : Jvm.MethodName)) ∈ lw_all := lw_g (lw_at lw_m15 197 rfl) rfl
theorem q4065 : (Jvm.Cond.privateMethod ({ cls := "LibraryDesk$Streame\x72", name := "comes", desc := "(I)Z" } : Jvm.MethodName)) ∈ lw_tbl := lw_at lw_m15 198 rfl
theorem q4066 : (Jvm.Cond.instanceMethod ({ cls := "LibraryDesk$Streame\x72", name := "comes", desc := "(I)Z" } : Jvm.MethodName)) ∈ lw_all := lw_g (lw_at lw_m15 199 rfl) rfl
theorem q4067 : (Jvm.Cond.code ({ cls := "LibraryDesk$Streame\x72", name := "comes", desc := "(I)Z" } : Jvm.MethodName) prog_29_method_16_code (4 : Nat) (Option.some Jvm.ClassFile.FieldType.boolean)) ∈ lw_all := lw_g (lw_at lw_m15 200 rfl) rfl
theorem q4068 : (Jvm.Cond.methodLink "LibraryDesk$Streame\x72" (279 : Nat) ({ cls := "LibraryDesk$Streame\x72", name := "test", desc := "(III)Z" } : Jvm.MethodName)) ∈ lw_all := lw_g (lw_at lw_m15 201 rfl) rfl
theorem q4069 : (Jvm.Cond.privateMethod ({ cls := "LibraryDesk$Streame\x72", name := "test", desc := "(III)Z" } : Jvm.MethodName)) ∈ lw_tbl := lw_at lw_m15 202 rfl
theorem q4070 : (Jvm.Cond.instanceMethod ({ cls := "LibraryDesk$Streame\x72", name := "test", desc := "(III)Z" } : Jvm.MethodName)) ∈ lw_all := lw_g (lw_at lw_m15 203 rfl) rfl
theorem q4071 : (Jvm.Cond.code ({ cls := "LibraryDesk$Streame\x72", name := "test", desc := "(III)Z" } : Jvm.MethodName) prog_29_method_11_code (4 : Nat) (Option.some Jvm.ClassFile.FieldType.boolean)) ∈ lw_all := lw_g (lw_at lw_m15 204 rfl) rfl
theorem q4072 : (Jvm.Cond.methodLink "LibraryDesk$Streame\x72" (283 : Nat) ({ cls := "LibraryDesk$Streame\x72", name := "copies", desc := "(II)Z" } : Jvm.MethodName)) ∈ lw_all := lw_g (lw_at lw_m15 205 rfl) rfl
theorem q4073 : (Jvm.Cond.privateMethod ({ cls := "LibraryDesk$Streame\x72", name := "copies", desc := "(II)Z" } : Jvm.MethodName)) ∈ lw_tbl := lw_at lw_m15 206 rfl
theorem q4074 : (Jvm.Cond.instanceMethod ({ cls := "LibraryDesk$Streame\x72", name := "copies", desc := "(II)Z" } : Jvm.MethodName)) ∈ lw_all := lw_g (lw_at lw_m15 207 rfl) rfl
theorem q4075 : (Jvm.Cond.code ({ cls := "LibraryDesk$Streame\x72", name := "copies", desc := "(II)Z" } : Jvm.MethodName) prog_29_method_17_code (3 : Nat) (Option.some Jvm.ClassFile.FieldType.boolean)) ∈ lw_all := lw_g (lw_at lw_m15 208 rfl) rfl
theorem q4076 : (Jvm.Cond.methodLink "LibraryDesk$Streame\x72" (286 : Nat) ({ cls := "LibraryDesk$Streame\x72", name := "distinct", desc := "(I)Z" } : Jvm.MethodName)) ∈ lw_all := lw_g (lw_at lw_m15 209 rfl) rfl
theorem q4077 : (Jvm.Cond.privateMethod ({ cls := "LibraryDesk$Streame\x72", name := "distinct", desc := "(I)Z" } : Jvm.MethodName)) ∈ lw_tbl := lw_at lw_m15 210 rfl
theorem q4078 : (Jvm.Cond.instanceMethod ({ cls := "LibraryDesk$Streame\x72", name := "distinct", desc := "(I)Z" } : Jvm.MethodName)) ∈ lw_all := lw_g (lw_at lw_m15 211 rfl) rfl
theorem q4079 : (Jvm.Cond.code ({ cls := "LibraryDesk$Streame\x72", name := "distinct", desc := "(I)Z" } : Jvm.MethodName) prog_29_method_18_code (4 : Nat) (Option.some Jvm.ClassFile.FieldType.boolean)) ∈ lw_all := lw_g (lw_at lw_m15 212 rfl) rfl
theorem q4080 : (Jvm.Cond.methodLink "LibraryDesk$Streame\x72" (290 : Nat) ({ cls := "LibraryDesk$Streame\x72", name := "keep", desc := "(I)V" } : Jvm.MethodName)) ∈ lw_all := lw_g (lw_at lw_m15 213 rfl) rfl
theorem q4081 : (Jvm.Cond.privateMethod ({ cls := "LibraryDesk$Streame\x72", name := "keep", desc := "(I)V" } : Jvm.MethodName)) ∈ lw_tbl := lw_at lw_m15 214 rfl
theorem q4082 : (Jvm.Cond.instanceMethod ({ cls := "LibraryDesk$Streame\x72", name := "keep", desc := "(I)V" } : Jvm.MethodName)) ∈ lw_all := lw_g (lw_at lw_m15 215 rfl) rfl
theorem q4083 : (Jvm.Cond.code ({ cls := "LibraryDesk$Streame\x72", name := "keep", desc := "(I)V" } : Jvm.MethodName) prog_29_method_19_code (2 : Nat) (Option.none : Option Jvm.ClassFile.FieldType)) ∈ lw_all := lw_g (lw_at lw_m15 216 rfl) rfl
theorem q4084 : (Jvm.Cond.methodLink "LibraryDesk$Streame\x72" (288 : Nat) ({ cls := "LibraryDesk$Streame\x72", name := "sorted", desc := "(II)Z" } : Jvm.MethodName)) ∈ lw_all := lw_g (lw_at lw_m15 217 rfl) rfl
theorem q4085 : (Jvm.Cond.privateMethod ({ cls := "LibraryDesk$Streame\x72", name := "sorted", desc := "(II)Z" } : Jvm.MethodName)) ∈ lw_tbl := lw_at lw_m15 218 rfl
theorem q4086 : (Jvm.Cond.instanceMethod ({ cls := "LibraryDesk$Streame\x72", name := "sorted", desc := "(II)Z" } : Jvm.MethodName)) ∈ lw_all := lw_g (lw_at lw_m15 219 rfl) rfl
theorem q4087 : (Jvm.Cond.code ({ cls := "LibraryDesk$Streame\x72", name := "sorted", desc := "(II)Z" } : Jvm.MethodName) prog_29_method_20_code (3 : Nat) (Option.some Jvm.ClassFile.FieldType.boolean)) ∈ lw_all := lw_g (lw_at lw_m15 220 rfl) rfl
theorem q4088 : (Jvm.Cond.methodLink "LibraryDesk$Streame\x72" (293 : Nat) ({ cls := "LibraryDesk$Streame\x72", name := "sort", desc := "(III)V" } : Jvm.MethodName)) ∈ lw_all := lw_g (lw_at lw_m15 221 rfl) rfl
theorem q4089 : (Jvm.Cond.privateMethod ({ cls := "LibraryDesk$Streame\x72", name := "sort", desc := "(III)V" } : Jvm.MethodName)) ∈ lw_tbl := lw_at lw_m15 222 rfl
theorem q4090 : (Jvm.Cond.instanceMethod ({ cls := "LibraryDesk$Streame\x72", name := "sort", desc := "(III)V" } : Jvm.MethodName)) ∈ lw_all := lw_g (lw_at lw_m15 223 rfl) rfl
theorem q4091 : (Jvm.Cond.code ({ cls := "LibraryDesk$Streame\x72", name := "sort", desc := "(III)V" } : Jvm.MethodName) prog_29_method_21_code (6 : Nat) (Option.none : Option Jvm.ClassFile.FieldType)) ∈ lw_all := lw_g (lw_at lw_m15 224 rfl) rfl
theorem q4092 : (Jvm.Cond.methodLink "LibraryDesk$Streame\x72" (297 : Nat) ({ cls := "java/lang/Math", name := "min", desc := "(II)I" } : Jvm.MethodName)) ∈ lw_all := lw_g (lw_at lw_m15 225 rfl) rfl
theorem q4093 : (Jvm.Cond.methodLink "LibraryDesk$Streame\x72" (302 : Nat) ({ cls := "LibraryDesk$Streame\x72", name := "merge", desc := "(IIIII)V" } : Jvm.MethodName)) ∈ lw_all := lw_g (lw_at lw_m15 226 rfl) rfl
theorem q4094 : (Jvm.Cond.privateMethod ({ cls := "LibraryDesk$Streame\x72", name := "merge", desc := "(IIIII)V" } : Jvm.MethodName)) ∈ lw_tbl := lw_at lw_m15 227 rfl
theorem q4095 : (Jvm.Cond.instanceMethod ({ cls := "LibraryDesk$Streame\x72", name := "merge", desc := "(IIIII)V" } : Jvm.MethodName)) ∈ lw_all := lw_g (lw_at lw_m15 228 rfl) rfl
theorem q4096 : (Jvm.Cond.code ({ cls := "LibraryDesk$Streame\x72", name := "merge", desc := "(IIIII)V" } : Jvm.MethodName) prog_29_method_22_code (10 : Nat) (Option.none : Option Jvm.ClassFile.FieldType)) ∈ lw_all := lw_g (lw_at lw_m15 229 rfl) rfl
theorem q4097 : (Jvm.Cond.methodLinkNest "LibraryDesk$Streame\x72" (312 : Nat) ({ cls := "LibraryDesk$Orders", name := "compare", desc := "(III)I" } : Jvm.MethodName) "LibraryDesk") ∈ lw_tbl := lw_at lw_m15 230 rfl
theorem q4098 : (Jvm.Cond.methodLink "LibraryDesk$Streame\x72" (306 : Nat) ({ cls := "java/lang/System", name := "arraycopy", desc := "(Ljava/lang/Object;ILjava/lang/Object;II)V" } : Jvm.MethodName)) ∈ lw_all := lw_g (lw_at lw_m15 231 rfl) rfl
theorem q4099 : (Jvm.Cond.constant "LibraryDesk$Streame\x72" (275 : Nat) (1000000 : Int32)) ∈ lw_all := lw_g (lw_at lw_m15 232 rfl) rfl
theorem q4119 : (Jvm.Cond.privateMethod ({ cls := "LibraryDesk$Streame\x72", name := "run", desc := "()J" } : Jvm.MethodName)) ∈ lw_tbl := lw_at lw_m16 12 rfl
theorem q4120 : (Jvm.Cond.instanceMethod ({ cls := "LibraryDesk$Streame\x72", name := "run", desc := "()J" } : Jvm.MethodName)) ∈ lw_all := lw_g (lw_at lw_m16 13 rfl) rfl
theorem q4121 : (Jvm.Cond.code ({ cls := "LibraryDesk$Streame\x72", name := "run", desc := "()J" } : Jvm.MethodName) prog_29_method_25_code (8 : Nat) (Option.some Jvm.ClassFile.FieldType.long)) ∈ lw_all := lw_g (lw_at lw_m16 14 rfl) rfl
theorem q4122 : (Jvm.Cond.constantLong "LibraryDesk$Streame\x72" (317 : Nat) (1099511627776 : Int64)) ∈ lw_all := lw_g (lw_at lw_m16 15 rfl) rfl
theorem q4123 : (Jvm.Cond.methodLink "LibraryDesk$Streame\x72" (322 : Nat) ({ cls := "LibraryDesk$Streame\x72", name := "fold", desc := "(III)I" } : Jvm.MethodName)) ∈ lw_all := lw_g (lw_at lw_m16 16 rfl) rfl
theorem q4124 : (Jvm.Cond.privateMethod ({ cls := "LibraryDesk$Streame\x72", name := "fold", desc := "(III)I" } : Jvm.MethodName)) ∈ lw_tbl := lw_at lw_m16 17 rfl
theorem q4125 : (Jvm.Cond.instanceMethod ({ cls := "LibraryDesk$Streame\x72", name := "fold", desc := "(III)I" } : Jvm.MethodName)) ∈ lw_all := lw_g (lw_at lw_m16 18 rfl) rfl
theorem q4126 : (Jvm.Cond.code ({ cls := "LibraryDesk$Streame\x72", name := "fold", desc := "(III)I" } : Jvm.MethodName) prog_29_method_23_code (4 : Nat) (Option.some Jvm.ClassFile.FieldType.int)) ∈ lw_all := lw_g (lw_at lw_m16 19 rfl) rfl
theorem q6117 : (Jvm.Cond.castable "LibraryDesk$Streame\x72" "java/lang/Object") ∈ lw_tbl := lw_at lw_m24 90 rfl
theorem in_X11 : ∀ w ∈ wsX110, w ∈ lw_all := lw_in wsX110 [936, 938, 940, 942, 944, 946, 948, 950, 952, 954, 956, 958, 960, 962, 964, 966, 968, 970, 972, 974, 976, 978, 980, 982, 984, 986, 988, 990] (by decide +kernel) (by decide +kernel)

