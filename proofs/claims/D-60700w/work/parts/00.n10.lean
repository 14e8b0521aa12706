/-! LibraryDesk$CursorThing -/
set_option maxRecDepth 100000
def RX29 : String := "LibraryDesk$CursorThing"
def TX29 : u_T := fun k => match k with
  | 0 => ("LibraryDesk$Thing", "kind", "I", true)
  | 1 => ("LibraryDesk$Thing", "used", "Z", false)
  | 2 => ("LibraryDesk$CursorThing", "of", "LLibraryDesk$Thing;", false)
  | 3 => ("LibraryDesk$CursorThing", "place", "I", false)
  | 4 => ("LibraryDesk$CursorThing", "passed", "I", false)
  | _ => ("LibraryDesk$CursorThing", "changes", "I", false)
def tyX29 : Nat → FieldType := fun k => match k with
  | 0 => .int
  | 1 => .boolean
  | 2 => .object "LibraryDesk$Thing"
  | 3 => .int
  | 4 => .int
  | _ => .int
abbrev wsX290 : List Cond := u_ws RX29 TX29 6
theorem nmX29 : ∀ a, a < 6 → ∀ b, b < 6 → a ≠ b → (TX29 a).2.1 ≠ (TX29 b).2.1 := by decide +kernel
theorem tyX29_ok : ∀ k, k < 6 → parseFieldDescriptor (TX29 k).2.2.1 = some (tyX29 k) := by decide +kernel
abbrev cX29_init : ByteArray := prog_5_method_1_code
def yX29_init : MethodName := ⟨RX29, "<init>", "()V"⟩
def dkwX29_init_0 : List UInt8 := [42, 16, 9, 183, 0, 3, 177]
abbrev dktX29_init_0 : List UInt8 := dkwX29_init_0 ++ []
theorem dksX29_init_0 : cX29_init.data.toList.drop 0 = dktX29_init_0 := by decide +kernel
theorem dX29_init_0 : decode cX29_init 0 = .ok (.aload_n 0, 1) := dk_42 (dk_at dksX29_init_0 0 rfl rfl)
theorem dX29_init_1 : decode cX29_init 1 = .ok (.bipush 9, 2) := dk_16 9 (dk_at dksX29_init_0 1 rfl rfl)
theorem dX29_init_3 : decode cX29_init 3 = .ok (.invokespecial 3, 3) := dk_183 0 3 (dk_at dksX29_init_0 3 rfl rfl)
theorem dX29_init_6 : decode cX29_init 6 = .ok (.return_, 1) := dk_177 (dk_at dksX29_init_0 6 rfl rfl)
abbrev cX29_begin : ByteArray := prog_5_method_2_code
def yX29_begin : MethodName := ⟨RX29, "begin", "(LLibraryDesk$Thing;)V"⟩
def dkwX29_begin_2 : List UInt8 := [177]
abbrev dktX29_begin_2 : List UInt8 := dkwX29_begin_2 ++ []
def dkwX29_begin_1 : List UInt8 := [167, 0, 13, 42, 180, 0, 9, 192, 0, 21, 182, 0, 23, 181, 0, 27, 42, 42, 182, 0, 30, 181, 0, 33]
abbrev dktX29_begin_1 : List UInt8 := dkwX29_begin_1 ++ dktX29_begin_2
def dkwX29_begin_0 : List UInt8 := [42, 43, 181, 0, 9, 42, 2, 181, 0, 15, 42, 42, 180, 0, 9, 193, 0, 19, 153, 0, 7, 3]
abbrev dktX29_begin_0 : List UInt8 := dkwX29_begin_0 ++ dktX29_begin_1
theorem dksX29_begin_0 : cX29_begin.data.toList.drop 0 = dktX29_begin_0 := by decide +kernel
theorem dksX29_begin_1 : cX29_begin.data.toList.drop 22 = dktX29_begin_1 := dk_seg dksX29_begin_0 22 rfl rfl
theorem dksX29_begin_2 : cX29_begin.data.toList.drop 46 = dktX29_begin_2 := dk_seg dksX29_begin_1 24 rfl rfl
theorem dX29_begin_0 : decode cX29_begin 0 = .ok (.aload_n 0, 1) := dk_42 (dk_at dksX29_begin_0 0 rfl rfl)
theorem dX29_begin_1 : decode cX29_begin 1 = .ok (.aload_n 1, 1) := dk_43 (dk_at dksX29_begin_0 1 rfl rfl)
theorem dX29_begin_2 : decode cX29_begin 2 = .ok (.putfield 9, 3) := dk_181 0 9 (dk_at dksX29_begin_0 2 rfl rfl)
theorem dX29_begin_5 : decode cX29_begin 5 = .ok (.aload_n 0, 1) := dk_42 (dk_at dksX29_begin_0 5 rfl rfl)
theorem dX29_begin_6 : decode cX29_begin 6 = .ok (.iconst (-1), 1) := dk_2 (dk_at dksX29_begin_0 6 rfl rfl)
theorem dX29_begin_7 : decode cX29_begin 7 = .ok (.putfield 15, 3) := dk_181 0 15 (dk_at dksX29_begin_0 7 rfl rfl)
theorem dX29_begin_10 : decode cX29_begin 10 = .ok (.aload_n 0, 1) := dk_42 (dk_at dksX29_begin_0 10 rfl rfl)
theorem dX29_begin_11 : decode cX29_begin 11 = .ok (.aload_n 0, 1) := dk_42 (dk_at dksX29_begin_0 11 rfl rfl)
theorem dX29_begin_12 : decode cX29_begin 12 = .ok (.getfield 9, 3) := dk_180 0 9 (dk_at dksX29_begin_0 12 rfl rfl)
theorem dX29_begin_15 : decode cX29_begin 15 = .ok (.instanceof 19, 3) := dk_193 0 19 (dk_at dksX29_begin_0 15 rfl rfl)
theorem dX29_begin_18 : decode cX29_begin 18 = .ok (.ifCond .eq 7, 3) := dk_153 0 7 (dk_at dksX29_begin_0 18 rfl rfl)
theorem dX29_begin_21 : decode cX29_begin 21 = .ok (.iconst 0, 1) := dk_3 (dk_at dksX29_begin_0 21 rfl rfl)
theorem dX29_begin_22 : decode cX29_begin 22 = .ok (.goto 13, 3) := dk_167 0 13 (dk_at dksX29_begin_1 0 rfl rfl)
theorem dX29_begin_25 : decode cX29_begin 25 = .ok (.aload_n 0, 1) := dk_42 (dk_at dksX29_begin_1 3 rfl rfl)
theorem dX29_begin_26 : decode cX29_begin 26 = .ok (.getfield 9, 3) := dk_180 0 9 (dk_at dksX29_begin_1 4 rfl rfl)
theorem dX29_begin_29 : decode cX29_begin 29 = .ok (.checkcast 21, 3) := dk_192 0 21 (dk_at dksX29_begin_1 7 rfl rfl)
theorem dX29_begin_32 : decode cX29_begin 32 = .ok (.invokevirtual 23, 3) := dk_182 0 23 (dk_at dksX29_begin_1 10 rfl rfl)
theorem dX29_begin_35 : decode cX29_begin 35 = .ok (.putfield 27, 3) := dk_181 0 27 (dk_at dksX29_begin_1 13 rfl rfl)
theorem dX29_begin_38 : decode cX29_begin 38 = .ok (.aload_n 0, 1) := dk_42 (dk_at dksX29_begin_1 16 rfl rfl)
theorem dX29_begin_39 : decode cX29_begin 39 = .ok (.aload_n 0, 1) := dk_42 (dk_at dksX29_begin_1 17 rfl rfl)
theorem dX29_begin_40 : decode cX29_begin 40 = .ok (.invokevirtual 30, 3) := dk_182 0 30 (dk_at dksX29_begin_1 18 rfl rfl)
theorem dX29_begin_43 : decode cX29_begin 43 = .ok (.putfield 33, 3) := dk_181 0 33 (dk_at dksX29_begin_1 21 rfl rfl)
theorem dX29_begin_46 : decode cX29_begin 46 = .ok (.return_, 1) := dk_177 (dk_at dksX29_begin_2 0 rfl rfl)
abbrev cX29_now : ByteArray := prog_5_method_3_code
def yX29_now : MethodName := ⟨RX29, "now", "()I"⟩
def dkwX29_now_1 : List UInt8 := [167, 0, 13, 42, 180, 0, 9, 192, 0, 21, 182, 0, 43, 172]
abbrev dktX29_now_1 : List UInt8 := dkwX29_now_1 ++ []
def dkwX29_now_0 : List UInt8 := [42, 180, 0, 9, 193, 0, 19, 153, 0, 19, 42, 180, 0, 9, 192, 0, 19, 182, 0, 36, 180, 0, 40]
abbrev dktX29_now_0 : List UInt8 := dkwX29_now_0 ++ dktX29_now_1
theorem dksX29_now_0 : cX29_now.data.toList.drop 0 = dktX29_now_0 := by decide +kernel
theorem dksX29_now_1 : cX29_now.data.toList.drop 23 = dktX29_now_1 := dk_seg dksX29_now_0 23 rfl rfl
theorem dX29_now_0 : decode cX29_now 0 = .ok (.aload_n 0, 1) := dk_42 (dk_at dksX29_now_0 0 rfl rfl)
theorem dX29_now_1 : decode cX29_now 1 = .ok (.getfield 9, 3) := dk_180 0 9 (dk_at dksX29_now_0 1 rfl rfl)
theorem dX29_now_4 : decode cX29_now 4 = .ok (.instanceof 19, 3) := dk_193 0 19 (dk_at dksX29_now_0 4 rfl rfl)
theorem dX29_now_7 : decode cX29_now 7 = .ok (.ifCond .eq 19, 3) := dk_153 0 19 (dk_at dksX29_now_0 7 rfl rfl)
theorem dX29_now_10 : decode cX29_now 10 = .ok (.aload_n 0, 1) := dk_42 (dk_at dksX29_now_0 10 rfl rfl)
theorem dX29_now_11 : decode cX29_now 11 = .ok (.getfield 9, 3) := dk_180 0 9 (dk_at dksX29_now_0 11 rfl rfl)
theorem dX29_now_14 : decode cX29_now 14 = .ok (.checkcast 19, 3) := dk_192 0 19 (dk_at dksX29_now_0 14 rfl rfl)
theorem dX29_now_17 : decode cX29_now 17 = .ok (.invokevirtual 36, 3) := dk_182 0 36 (dk_at dksX29_now_0 17 rfl rfl)
theorem dX29_now_20 : decode cX29_now 20 = .ok (.getfield 40, 3) := dk_180 0 40 (dk_at dksX29_now_0 20 rfl rfl)
theorem dX29_now_23 : decode cX29_now 23 = .ok (.goto 13, 3) := dk_167 0 13 (dk_at dksX29_now_1 0 rfl rfl)
theorem dX29_now_26 : decode cX29_now 26 = .ok (.aload_n 0, 1) := dk_42 (dk_at dksX29_now_1 3 rfl rfl)
theorem dX29_now_27 : decode cX29_now 27 = .ok (.getfield 9, 3) := dk_180 0 9 (dk_at dksX29_now_1 4 rfl rfl)
theorem dX29_now_30 : decode cX29_now 30 = .ok (.checkcast 21, 3) := dk_192 0 21 (dk_at dksX29_now_1 7 rfl rfl)
theorem dX29_now_33 : decode cX29_now 33 = .ok (.invokevirtual 43, 3) := dk_182 0 43 (dk_at dksX29_now_1 10 rfl rfl)
theorem dX29_now_36 : decode cX29_now 36 = .ok (.ireturn, 1) := dk_172 (dk_at dksX29_now_1 13 rfl rfl)
abbrev cX29_call : ByteArray := prog_5_method_6_code
def yX29_call : MethodName := ⟨RX29, "call", "(II)J"⟩
def dkwX29_call_5 : List UInt8 := [66, 42, 42, 182, 0, 30, 181, 0, 33, 33, 173]
abbrev dktX29_call_5 : List UInt8 := dkwX29_call_5 ++ []
def dkwX29_call_4 : List UInt8 := [192, 0, 21, 27, 28, 182, 0, 61, 167, 0, 16, 42, 42, 180, 0, 9, 192, 0, 19, 27, 28, 182, 0, 65]
abbrev dktX29_call_4 : List UInt8 := dkwX29_call_4 ++ dktX29_call_5
def dkwX29_call_3 : List UInt8 := [160, 0, 7, 4, 167, 0, 4, 3, 184, 0, 49, 42, 182, 0, 54, 153, 0, 19, 42, 42, 180, 0, 9]
abbrev dktX29_call_3 : List UInt8 := dkwX29_call_3 ++ dktX29_call_4
def dkwX29_call_2 : List UInt8 := [167, 0, 4, 3, 184, 0, 58, 42, 180, 0, 15, 156, 0, 14, 27, 8, 161, 0, 9, 27, 16, 7]
abbrev dktX29_call_2 : List UInt8 := dkwX29_call_2 ++ dktX29_call_3
def dkwX29_call_1 : List UInt8 := [159, 0, 13, 27, 16, 7, 159, 0, 7, 4, 167, 0, 18, 3, 167, 0, 14, 27, 16, 8, 159, 0, 7, 4]
abbrev dktX29_call_1 : List UInt8 := dkwX29_call_1 ++ dktX29_call_2
def dkwX29_call_0 : List UInt8 := [42, 182, 0, 53, 42, 182, 0, 54, 153, 0, 32, 27, 4, 159, 0, 23, 27, 6, 159, 0, 18, 27, 7]
abbrev dktX29_call_0 : List UInt8 := dkwX29_call_0 ++ dktX29_call_1
theorem dksX29_call_0 : cX29_call.data.toList.drop 0 = dktX29_call_0 := by decide +kernel
theorem dksX29_call_1 : cX29_call.data.toList.drop 23 = dktX29_call_1 := dk_seg dksX29_call_0 23 rfl rfl
theorem dksX29_call_2 : cX29_call.data.toList.drop 47 = dktX29_call_2 := dk_seg dksX29_call_1 24 rfl rfl
theorem dksX29_call_3 : cX29_call.data.toList.drop 69 = dktX29_call_3 := dk_seg dksX29_call_2 22 rfl rfl
theorem dksX29_call_4 : cX29_call.data.toList.drop 92 = dktX29_call_4 := dk_seg dksX29_call_3 23 rfl rfl
theorem dksX29_call_5 : cX29_call.data.toList.drop 116 = dktX29_call_5 := dk_seg dksX29_call_4 24 rfl rfl
theorem dX29_call_0 : decode cX29_call 0 = .ok (.aload_n 0, 1) := dk_42 (dk_at dksX29_call_0 0 rfl rfl)
theorem dX29_call_1 : decode cX29_call 1 = .ok (.invokevirtual 53, 3) := dk_182 0 53 (dk_at dksX29_call_0 1 rfl rfl)
theorem dX29_call_4 : decode cX29_call 4 = .ok (.aload_n 0, 1) := dk_42 (dk_at dksX29_call_0 4 rfl rfl)
theorem dX29_call_5 : decode cX29_call 5 = .ok (.invokevirtual 54, 3) := dk_182 0 54 (dk_at dksX29_call_0 5 rfl rfl)
theorem dX29_call_8 : decode cX29_call 8 = .ok (.ifCond .eq 32, 3) := dk_153 0 32 (dk_at dksX29_call_0 8 rfl rfl)
theorem dX29_call_11 : decode cX29_call 11 = .ok (.iload_n 1, 1) := dk_27 (dk_at dksX29_call_0 11 rfl rfl)
theorem dX29_call_12 : decode cX29_call 12 = .ok (.iconst 1, 1) := dk_4 (dk_at dksX29_call_0 12 rfl rfl)
theorem dX29_call_13 : decode cX29_call 13 = .ok (.if_icmp .eq 23, 3) := dk_159 0 23 (dk_at dksX29_call_0 13 rfl rfl)
theorem dX29_call_16 : decode cX29_call 16 = .ok (.iload_n 1, 1) := dk_27 (dk_at dksX29_call_0 16 rfl rfl)
theorem dX29_call_17 : decode cX29_call 17 = .ok (.iconst 3, 1) := dk_6 (dk_at dksX29_call_0 17 rfl rfl)
theorem dX29_call_18 : decode cX29_call 18 = .ok (.if_icmp .eq 18, 3) := dk_159 0 18 (dk_at dksX29_call_0 18 rfl rfl)
theorem dX29_call_21 : decode cX29_call 21 = .ok (.iload_n 1, 1) := dk_27 (dk_at dksX29_call_0 21 rfl rfl)
theorem dX29_call_22 : decode cX29_call 22 = .ok (.iconst 4, 1) := dk_7 (dk_at dksX29_call_0 22 rfl rfl)
theorem dX29_call_23 : decode cX29_call 23 = .ok (.if_icmp .eq 13, 3) := dk_159 0 13 (dk_at dksX29_call_1 0 rfl rfl)
theorem dX29_call_26 : decode cX29_call 26 = .ok (.iload_n 1, 1) := dk_27 (dk_at dksX29_call_1 3 rfl rfl)
theorem dX29_call_27 : decode cX29_call 27 = .ok (.bipush 7, 2) := dk_16 7 (dk_at dksX29_call_1 4 rfl rfl)
theorem dX29_call_29 : decode cX29_call 29 = .ok (.if_icmp .eq 7, 3) := dk_159 0 7 (dk_at dksX29_call_1 6 rfl rfl)
theorem dX29_call_32 : decode cX29_call 32 = .ok (.iconst 1, 1) := dk_4 (dk_at dksX29_call_1 9 rfl rfl)
theorem dX29_call_33 : decode cX29_call 33 = .ok (.goto 18, 3) := dk_167 0 18 (dk_at dksX29_call_1 10 rfl rfl)
theorem dX29_call_36 : decode cX29_call 36 = .ok (.iconst 0, 1) := dk_3 (dk_at dksX29_call_1 13 rfl rfl)
theorem dX29_call_37 : decode cX29_call 37 = .ok (.goto 14, 3) := dk_167 0 14 (dk_at dksX29_call_1 14 rfl rfl)
theorem dX29_call_40 : decode cX29_call 40 = .ok (.iload_n 1, 1) := dk_27 (dk_at dksX29_call_1 17 rfl rfl)
theorem dX29_call_41 : decode cX29_call 41 = .ok (.bipush 8, 2) := dk_16 8 (dk_at dksX29_call_1 18 rfl rfl)
theorem dX29_call_43 : decode cX29_call 43 = .ok (.if_icmp .eq 7, 3) := dk_159 0 7 (dk_at dksX29_call_1 20 rfl rfl)
theorem dX29_call_46 : decode cX29_call 46 = .ok (.iconst 1, 1) := dk_4 (dk_at dksX29_call_1 23 rfl rfl)
theorem dX29_call_47 : decode cX29_call 47 = .ok (.goto 4, 3) := dk_167 0 4 (dk_at dksX29_call_2 0 rfl rfl)
theorem dX29_call_50 : decode cX29_call 50 = .ok (.iconst 0, 1) := dk_3 (dk_at dksX29_call_2 3 rfl rfl)
theorem dX29_call_51 : decode cX29_call 51 = .ok (.invokestatic 58, 3) := dk_184 0 58 (dk_at dksX29_call_2 4 rfl rfl)
theorem dX29_call_54 : decode cX29_call 54 = .ok (.aload_n 0, 1) := dk_42 (dk_at dksX29_call_2 7 rfl rfl)
theorem dX29_call_55 : decode cX29_call 55 = .ok (.getfield 15, 3) := dk_180 0 15 (dk_at dksX29_call_2 8 rfl rfl)
theorem dX29_call_58 : decode cX29_call 58 = .ok (.ifCond .ge 14, 3) := dk_156 0 14 (dk_at dksX29_call_2 11 rfl rfl)
theorem dX29_call_61 : decode cX29_call 61 = .ok (.iload_n 1, 1) := dk_27 (dk_at dksX29_call_2 14 rfl rfl)
theorem dX29_call_62 : decode cX29_call 62 = .ok (.iconst 5, 1) := dk_8 (dk_at dksX29_call_2 15 rfl rfl)
theorem dX29_call_63 : decode cX29_call 63 = .ok (.if_icmp .lt 9, 3) := dk_161 0 9 (dk_at dksX29_call_2 16 rfl rfl)
theorem dX29_call_66 : decode cX29_call 66 = .ok (.iload_n 1, 1) := dk_27 (dk_at dksX29_call_2 19 rfl rfl)
theorem dX29_call_67 : decode cX29_call 67 = .ok (.bipush 7, 2) := dk_16 7 (dk_at dksX29_call_2 20 rfl rfl)
theorem dX29_call_69 : decode cX29_call 69 = .ok (.if_icmp .ne 7, 3) := dk_160 0 7 (dk_at dksX29_call_3 0 rfl rfl)
theorem dX29_call_72 : decode cX29_call 72 = .ok (.iconst 1, 1) := dk_4 (dk_at dksX29_call_3 3 rfl rfl)
theorem dX29_call_73 : decode cX29_call 73 = .ok (.goto 4, 3) := dk_167 0 4 (dk_at dksX29_call_3 4 rfl rfl)
theorem dX29_call_76 : decode cX29_call 76 = .ok (.iconst 0, 1) := dk_3 (dk_at dksX29_call_3 7 rfl rfl)
theorem dX29_call_77 : decode cX29_call 77 = .ok (.invokestatic 49, 3) := dk_184 0 49 (dk_at dksX29_call_3 8 rfl rfl)
theorem dX29_call_80 : decode cX29_call 80 = .ok (.aload_n 0, 1) := dk_42 (dk_at dksX29_call_3 11 rfl rfl)
theorem dX29_call_81 : decode cX29_call 81 = .ok (.invokevirtual 54, 3) := dk_182 0 54 (dk_at dksX29_call_3 12 rfl rfl)
theorem dX29_call_84 : decode cX29_call 84 = .ok (.ifCond .eq 19, 3) := dk_153 0 19 (dk_at dksX29_call_3 15 rfl rfl)
theorem dX29_call_87 : decode cX29_call 87 = .ok (.aload_n 0, 1) := dk_42 (dk_at dksX29_call_3 18 rfl rfl)
theorem dX29_call_88 : decode cX29_call 88 = .ok (.aload_n 0, 1) := dk_42 (dk_at dksX29_call_3 19 rfl rfl)
theorem dX29_call_89 : decode cX29_call 89 = .ok (.getfield 9, 3) := dk_180 0 9 (dk_at dksX29_call_3 20 rfl rfl)
theorem dX29_call_92 : decode cX29_call 92 = .ok (.checkcast 21, 3) := dk_192 0 21 (dk_at dksX29_call_4 0 rfl rfl)
theorem dX29_call_95 : decode cX29_call 95 = .ok (.iload_n 1, 1) := dk_27 (dk_at dksX29_call_4 3 rfl rfl)
theorem dX29_call_96 : decode cX29_call 96 = .ok (.iload_n 2, 1) := dk_28 (dk_at dksX29_call_4 4 rfl rfl)
theorem dX29_call_97 : decode cX29_call 97 = .ok (.invokevirtual 61, 3) := dk_182 0 61 (dk_at dksX29_call_4 5 rfl rfl)
theorem dX29_call_100 : decode cX29_call 100 = .ok (.goto 16, 3) := dk_167 0 16 (dk_at dksX29_call_4 8 rfl rfl)
theorem dX29_call_103 : decode cX29_call 103 = .ok (.aload_n 0, 1) := dk_42 (dk_at dksX29_call_4 11 rfl rfl)
theorem dX29_call_104 : decode cX29_call 104 = .ok (.aload_n 0, 1) := dk_42 (dk_at dksX29_call_4 12 rfl rfl)
theorem dX29_call_105 : decode cX29_call 105 = .ok (.getfield 9, 3) := dk_180 0 9 (dk_at dksX29_call_4 13 rfl rfl)
theorem dX29_call_108 : decode cX29_call 108 = .ok (.checkcast 19, 3) := dk_192 0 19 (dk_at dksX29_call_4 16 rfl rfl)
theorem dX29_call_111 : decode cX29_call 111 = .ok (.iload_n 1, 1) := dk_27 (dk_at dksX29_call_4 19 rfl rfl)
theorem dX29_call_112 : decode cX29_call 112 = .ok (.iload_n 2, 1) := dk_28 (dk_at dksX29_call_4 20 rfl rfl)
theorem dX29_call_113 : decode cX29_call 113 = .ok (.invokevirtual 65, 3) := dk_182 0 65 (dk_at dksX29_call_4 21 rfl rfl)
theorem dX29_call_116 : decode cX29_call 116 = .ok (.lstore_n 3, 1) := dk_66 (dk_at dksX29_call_5 0 rfl rfl)
theorem dX29_call_117 : decode cX29_call 117 = .ok (.aload_n 0, 1) := dk_42 (dk_at dksX29_call_5 1 rfl rfl)
theorem dX29_call_118 : decode cX29_call 118 = .ok (.aload_n 0, 1) := dk_42 (dk_at dksX29_call_5 2 rfl rfl)
theorem dX29_call_119 : decode cX29_call 119 = .ok (.invokevirtual 30, 3) := dk_182 0 30 (dk_at dksX29_call_5 3 rfl rfl)
theorem dX29_call_122 : decode cX29_call 122 = .ok (.putfield 33, 3) := dk_181 0 33 (dk_at dksX29_call_5 6 rfl rfl)
theorem dX29_call_125 : decode cX29_call 125 = .ok (.lload_n 3, 1) := dk_33 (dk_at dksX29_call_5 9 rfl rfl)
theorem dX29_call_126 : decode cX29_call 126 = .ok (.lreturn, 1) := dk_173 (dk_at dksX29_call_5 10 rfl rfl)
abbrev cX29_check : ByteArray := prog_5_method_4_code
def yX29_check : MethodName := ⟨RX29, "check", "()V"⟩
def dkwX29_check_1 : List UInt8 := [42, 182, 0, 30, 160, 0, 7, 4, 167, 0, 4, 3, 184, 0, 49, 177]
abbrev dktX29_check_1 : List UInt8 := dkwX29_check_1 ++ []
def dkwX29_check_0 : List UInt8 := [42, 180, 0, 9, 193, 0, 19, 153, 0, 13, 42, 180, 0, 9, 192, 0, 19, 182, 0, 45, 42, 180, 0, 33]
abbrev dktX29_check_0 : List UInt8 := dkwX29_check_0 ++ dktX29_check_1
theorem dksX29_check_0 : cX29_check.data.toList.drop 0 = dktX29_check_0 := by decide +kernel
theorem dksX29_check_1 : cX29_check.data.toList.drop 24 = dktX29_check_1 := dk_seg dksX29_check_0 24 rfl rfl
theorem dX29_check_0 : decode cX29_check 0 = .ok (.aload_n 0, 1) := dk_42 (dk_at dksX29_check_0 0 rfl rfl)
theorem dX29_check_1 : decode cX29_check 1 = .ok (.getfield 9, 3) := dk_180 0 9 (dk_at dksX29_check_0 1 rfl rfl)
theorem dX29_check_4 : decode cX29_check 4 = .ok (.instanceof 19, 3) := dk_193 0 19 (dk_at dksX29_check_0 4 rfl rfl)
theorem dX29_check_7 : decode cX29_check 7 = .ok (.ifCond .eq 13, 3) := dk_153 0 13 (dk_at dksX29_check_0 7 rfl rfl)
theorem dX29_check_10 : decode cX29_check 10 = .ok (.aload_n 0, 1) := dk_42 (dk_at dksX29_check_0 10 rfl rfl)
theorem dX29_check_11 : decode cX29_check 11 = .ok (.getfield 9, 3) := dk_180 0 9 (dk_at dksX29_check_0 11 rfl rfl)
theorem dX29_check_14 : decode cX29_check 14 = .ok (.checkcast 19, 3) := dk_192 0 19 (dk_at dksX29_check_0 14 rfl rfl)
theorem dX29_check_17 : decode cX29_check 17 = .ok (.invokevirtual 45, 3) := dk_182 0 45 (dk_at dksX29_check_0 17 rfl rfl)
theorem dX29_check_20 : decode cX29_check 20 = .ok (.aload_n 0, 1) := dk_42 (dk_at dksX29_check_0 20 rfl rfl)
theorem dX29_check_21 : decode cX29_check 21 = .ok (.getfield 33, 3) := dk_180 0 33 (dk_at dksX29_check_0 21 rfl rfl)
theorem dX29_check_24 : decode cX29_check 24 = .ok (.aload_n 0, 1) := dk_42 (dk_at dksX29_check_1 0 rfl rfl)
theorem dX29_check_25 : decode cX29_check 25 = .ok (.invokevirtual 30, 3) := dk_182 0 30 (dk_at dksX29_check_1 1 rfl rfl)
theorem dX29_check_28 : decode cX29_check 28 = .ok (.if_icmp .ne 7, 3) := dk_160 0 7 (dk_at dksX29_check_1 4 rfl rfl)
theorem dX29_check_31 : decode cX29_check 31 = .ok (.iconst 1, 1) := dk_4 (dk_at dksX29_check_1 7 rfl rfl)
theorem dX29_check_32 : decode cX29_check 32 = .ok (.goto 4, 3) := dk_167 0 4 (dk_at dksX29_check_1 8 rfl rfl)
theorem dX29_check_35 : decode cX29_check 35 = .ok (.iconst 0, 1) := dk_3 (dk_at dksX29_check_1 11 rfl rfl)
theorem dX29_check_36 : decode cX29_check 36 = .ok (.invokestatic 49, 3) := dk_184 0 49 (dk_at dksX29_check_1 12 rfl rfl)
theorem dX29_check_39 : decode cX29_check 39 = .ok (.return_, 1) := dk_177 (dk_at dksX29_check_1 15 rfl rfl)
abbrev cX29_isOfMap : ByteArray := prog_5_method_5_code
def yX29_isOfMap : MethodName := ⟨RX29, "isOfMap", "()Z"⟩
def dkwX29_isOfMap_0 : List UInt8 := [42, 180, 0, 9, 193, 0, 21, 172]
abbrev dktX29_isOfMap_0 : List UInt8 := dkwX29_isOfMap_0 ++ []
theorem dksX29_isOfMap_0 : cX29_isOfMap.data.toList.drop 0 = dktX29_isOfMap_0 := by decide +kernel
theorem dX29_isOfMap_0 : decode cX29_isOfMap 0 = .ok (.aload_n 0, 1) := dk_42 (dk_at dksX29_isOfMap_0 0 rfl rfl)
theorem dX29_isOfMap_1 : decode cX29_isOfMap 1 = .ok (.getfield 9, 3) := dk_180 0 9 (dk_at dksX29_isOfMap_0 1 rfl rfl)
theorem dX29_isOfMap_4 : decode cX29_isOfMap 4 = .ok (.instanceof 21, 3) := dk_193 0 21 (dk_at dksX29_isOfMap_0 4 rfl rfl)
theorem dX29_isOfMap_7 : decode cX29_isOfMap 7 = .ok (.ireturn, 1) := dk_172 (dk_at dksX29_isOfMap_0 7 rfl rfl)
abbrev cX29_inMap : ByteArray := prog_5_method_7_code
def yX29_inMap : MethodName := ⟨RX29, "inMap", "(LLibraryDesk$Maps;II)J"⟩
def dkwX29_inMap_7 : List UInt8 := [173]
abbrev dktX29_inMap_7 : List UInt8 := dkwX29_inMap_7 ++ []
def dkwX29_inMap_6 : List UInt8 := [54, 5, 43, 42, 180, 0, 15, 29, 182, 0, 85, 21, 5, 133, 173, 43, 42, 180, 0, 15, 182, 0, 82, 133]
abbrev dktX29_inMap_6 : List UInt8 := dkwX29_inMap_6 ++ dktX29_inMap_7
def dkwX29_inMap_5 : List UInt8 := [180, 0, 15, 182, 0, 79, 42, 2, 181, 0, 15, 21, 4, 133, 173, 43, 42, 180, 0, 15, 182, 0, 82]
abbrev dktX29_inMap_5 : List UInt8 := dkwX29_inMap_5 ++ dktX29_inMap_6
def dkwX29_inMap_4 : List UInt8 := [180, 0, 27, 155, 0, 7, 10, 167, 0, 4, 9, 173, 43, 42, 180, 0, 15, 182, 0, 76, 54, 4, 43, 42]
abbrev dktX29_inMap_4 : List UInt8 := dkwX29_inMap_4 ++ dktX29_inMap_5
def dkwX29_inMap_3 : List UInt8 := [43, 42, 180, 0, 27, 182, 0, 72, 181, 0, 27, 43, 42, 180, 0, 15, 182, 0, 76, 133, 173, 42]
abbrev dktX29_inMap_3 : List UInt8 := dkwX29_inMap_3 ++ dktX29_inMap_4
def dkwX29_inMap_2 : List UInt8 := [42, 180, 0, 27, 155, 0, 7, 4, 167, 0, 4, 3, 184, 0, 69, 42, 42, 180, 0, 27, 181, 0, 15, 42]
abbrev dktX29_inMap_2 : List UInt8 := dkwX29_inMap_2 ++ dktX29_inMap_3
def dkwX29_inMap_1 : List UInt8 := [170, 0, 0, 0, 0, 0, 151, 0, 0, 0, 0, 0, 0, 0, 6, 0, 0, 0, 43, 0, 0, 0, 151, 0, 0, 0, 88, 0, 0, 0, 151, 0, 0, 0, 151, 0, 0, 0, 101, 0, 0, 0, 128]
abbrev dktX29_inMap_1 : List UInt8 := dkwX29_inMap_1 ++ dktX29_inMap_2
def dkwX29_inMap_0 : List UInt8 := [28]
abbrev dktX29_inMap_0 : List UInt8 := dkwX29_inMap_0 ++ dktX29_inMap_1
theorem dksX29_inMap_0 : cX29_inMap.data.toList.drop 0 = dktX29_inMap_0 := by decide +kernel
theorem dksX29_inMap_1 : cX29_inMap.data.toList.drop 1 = dktX29_inMap_1 := dk_seg dksX29_inMap_0 1 rfl rfl
theorem dksX29_inMap_2 : cX29_inMap.data.toList.drop 44 = dktX29_inMap_2 := dk_seg dksX29_inMap_1 43 rfl rfl
theorem dksX29_inMap_3 : cX29_inMap.data.toList.drop 68 = dktX29_inMap_3 := dk_seg dksX29_inMap_2 24 rfl rfl
theorem dksX29_inMap_4 : cX29_inMap.data.toList.drop 90 = dktX29_inMap_4 := dk_seg dksX29_inMap_3 22 rfl rfl
theorem dksX29_inMap_5 : cX29_inMap.data.toList.drop 114 = dktX29_inMap_5 := dk_seg dksX29_inMap_4 24 rfl rfl
theorem dksX29_inMap_6 : cX29_inMap.data.toList.drop 137 = dktX29_inMap_6 := dk_seg dksX29_inMap_5 23 rfl rfl
theorem dksX29_inMap_7 : cX29_inMap.data.toList.drop 161 = dktX29_inMap_7 := dk_seg dksX29_inMap_6 24 rfl rfl
theorem dX29_inMap_0 : decode cX29_inMap 0 = .ok (.iload_n 2, 1) := dk_28 (dk_at dksX29_inMap_0 0 rfl rfl)
theorem dX29_inMap_1 : decode cX29_inMap 1 = .ok (.tableswitch 151 0 6 #[43, 151, 88, 151, 151, 101, 128], 43) := by decide +kernel
theorem dX29_inMap_44 : decode cX29_inMap 44 = .ok (.aload_n 0, 1) := dk_42 (dk_at dksX29_inMap_2 0 rfl rfl)
theorem dX29_inMap_45 : decode cX29_inMap 45 = .ok (.getfield 27, 3) := dk_180 0 27 (dk_at dksX29_inMap_2 1 rfl rfl)
theorem dX29_inMap_48 : decode cX29_inMap 48 = .ok (.ifCond .lt 7, 3) := dk_155 0 7 (dk_at dksX29_inMap_2 4 rfl rfl)
theorem dX29_inMap_51 : decode cX29_inMap 51 = .ok (.iconst 1, 1) := dk_4 (dk_at dksX29_inMap_2 7 rfl rfl)
theorem dX29_inMap_52 : decode cX29_inMap 52 = .ok (.goto 4, 3) := dk_167 0 4 (dk_at dksX29_inMap_2 8 rfl rfl)
theorem dX29_inMap_55 : decode cX29_inMap 55 = .ok (.iconst 0, 1) := dk_3 (dk_at dksX29_inMap_2 11 rfl rfl)
theorem dX29_inMap_56 : decode cX29_inMap 56 = .ok (.invokestatic 69, 3) := dk_184 0 69 (dk_at dksX29_inMap_2 12 rfl rfl)
theorem dX29_inMap_59 : decode cX29_inMap 59 = .ok (.aload_n 0, 1) := dk_42 (dk_at dksX29_inMap_2 15 rfl rfl)
theorem dX29_inMap_60 : decode cX29_inMap 60 = .ok (.aload_n 0, 1) := dk_42 (dk_at dksX29_inMap_2 16 rfl rfl)
theorem dX29_inMap_61 : decode cX29_inMap 61 = .ok (.getfield 27, 3) := dk_180 0 27 (dk_at dksX29_inMap_2 17 rfl rfl)
theorem dX29_inMap_64 : decode cX29_inMap 64 = .ok (.putfield 15, 3) := dk_181 0 15 (dk_at dksX29_inMap_2 20 rfl rfl)
theorem dX29_inMap_67 : decode cX29_inMap 67 = .ok (.aload_n 0, 1) := dk_42 (dk_at dksX29_inMap_2 23 rfl rfl)
theorem dX29_inMap_68 : decode cX29_inMap 68 = .ok (.aload_n 1, 1) := dk_43 (dk_at dksX29_inMap_3 0 rfl rfl)
theorem dX29_inMap_69 : decode cX29_inMap 69 = .ok (.aload_n 0, 1) := dk_42 (dk_at dksX29_inMap_3 1 rfl rfl)
theorem dX29_inMap_70 : decode cX29_inMap 70 = .ok (.getfield 27, 3) := dk_180 0 27 (dk_at dksX29_inMap_3 2 rfl rfl)
theorem dX29_inMap_73 : decode cX29_inMap 73 = .ok (.invokevirtual 72, 3) := dk_182 0 72 (dk_at dksX29_inMap_3 5 rfl rfl)
theorem dX29_inMap_76 : decode cX29_inMap 76 = .ok (.putfield 27, 3) := dk_181 0 27 (dk_at dksX29_inMap_3 8 rfl rfl)
theorem dX29_inMap_79 : decode cX29_inMap 79 = .ok (.aload_n 1, 1) := dk_43 (dk_at dksX29_inMap_3 11 rfl rfl)
theorem dX29_inMap_80 : decode cX29_inMap 80 = .ok (.aload_n 0, 1) := dk_42 (dk_at dksX29_inMap_3 12 rfl rfl)
theorem dX29_inMap_81 : decode cX29_inMap 81 = .ok (.getfield 15, 3) := dk_180 0 15 (dk_at dksX29_inMap_3 13 rfl rfl)
theorem dX29_inMap_84 : decode cX29_inMap 84 = .ok (.invokevirtual 76, 3) := dk_182 0 76 (dk_at dksX29_inMap_3 16 rfl rfl)
theorem dX29_inMap_87 : decode cX29_inMap 87 = .ok (.i2l, 1) := dk_133 (dk_at dksX29_inMap_3 19 rfl rfl)
theorem dX29_inMap_88 : decode cX29_inMap 88 = .ok (.lreturn, 1) := dk_173 (dk_at dksX29_inMap_3 20 rfl rfl)
theorem dX29_inMap_89 : decode cX29_inMap 89 = .ok (.aload_n 0, 1) := dk_42 (dk_at dksX29_inMap_3 21 rfl rfl)
theorem dX29_inMap_90 : decode cX29_inMap 90 = .ok (.getfield 27, 3) := dk_180 0 27 (dk_at dksX29_inMap_4 0 rfl rfl)
theorem dX29_inMap_93 : decode cX29_inMap 93 = .ok (.ifCond .lt 7, 3) := dk_155 0 7 (dk_at dksX29_inMap_4 3 rfl rfl)
theorem dX29_inMap_96 : decode cX29_inMap 96 = .ok (.lconst 1, 1) := dk_10 (dk_at dksX29_inMap_4 6 rfl rfl)
theorem dX29_inMap_97 : decode cX29_inMap 97 = .ok (.goto 4, 3) := dk_167 0 4 (dk_at dksX29_inMap_4 7 rfl rfl)
theorem dX29_inMap_100 : decode cX29_inMap 100 = .ok (.lconst 0, 1) := dk_9 (dk_at dksX29_inMap_4 10 rfl rfl)
theorem dX29_inMap_101 : decode cX29_inMap 101 = .ok (.lreturn, 1) := dk_173 (dk_at dksX29_inMap_4 11 rfl rfl)
theorem dX29_inMap_102 : decode cX29_inMap 102 = .ok (.aload_n 1, 1) := dk_43 (dk_at dksX29_inMap_4 12 rfl rfl)
theorem dX29_inMap_103 : decode cX29_inMap 103 = .ok (.aload_n 0, 1) := dk_42 (dk_at dksX29_inMap_4 13 rfl rfl)
theorem dX29_inMap_104 : decode cX29_inMap 104 = .ok (.getfield 15, 3) := dk_180 0 15 (dk_at dksX29_inMap_4 14 rfl rfl)
theorem dX29_inMap_107 : decode cX29_inMap 107 = .ok (.invokevirtual 76, 3) := dk_182 0 76 (dk_at dksX29_inMap_4 17 rfl rfl)
theorem dX29_inMap_110 : decode cX29_inMap 110 = .ok (.istore 4, 2) := dk_54 4 (dk_at dksX29_inMap_4 20 rfl rfl)
theorem dX29_inMap_112 : decode cX29_inMap 112 = .ok (.aload_n 1, 1) := dk_43 (dk_at dksX29_inMap_4 22 rfl rfl)
theorem dX29_inMap_113 : decode cX29_inMap 113 = .ok (.aload_n 0, 1) := dk_42 (dk_at dksX29_inMap_4 23 rfl rfl)
theorem dX29_inMap_114 : decode cX29_inMap 114 = .ok (.getfield 15, 3) := dk_180 0 15 (dk_at dksX29_inMap_5 0 rfl rfl)
theorem dX29_inMap_117 : decode cX29_inMap 117 = .ok (.invokevirtual 79, 3) := dk_182 0 79 (dk_at dksX29_inMap_5 3 rfl rfl)
theorem dX29_inMap_120 : decode cX29_inMap 120 = .ok (.aload_n 0, 1) := dk_42 (dk_at dksX29_inMap_5 6 rfl rfl)
theorem dX29_inMap_121 : decode cX29_inMap 121 = .ok (.iconst (-1), 1) := dk_2 (dk_at dksX29_inMap_5 7 rfl rfl)
theorem dX29_inMap_122 : decode cX29_inMap 122 = .ok (.putfield 15, 3) := dk_181 0 15 (dk_at dksX29_inMap_5 8 rfl rfl)
theorem dX29_inMap_125 : decode cX29_inMap 125 = .ok (.iload 4, 2) := dk_21 4 (dk_at dksX29_inMap_5 11 rfl rfl)
theorem dX29_inMap_127 : decode cX29_inMap 127 = .ok (.i2l, 1) := dk_133 (dk_at dksX29_inMap_5 13 rfl rfl)
theorem dX29_inMap_128 : decode cX29_inMap 128 = .ok (.lreturn, 1) := dk_173 (dk_at dksX29_inMap_5 14 rfl rfl)
theorem dX29_inMap_129 : decode cX29_inMap 129 = .ok (.aload_n 1, 1) := dk_43 (dk_at dksX29_inMap_5 15 rfl rfl)
theorem dX29_inMap_130 : decode cX29_inMap 130 = .ok (.aload_n 0, 1) := dk_42 (dk_at dksX29_inMap_5 16 rfl rfl)
theorem dX29_inMap_131 : decode cX29_inMap 131 = .ok (.getfield 15, 3) := dk_180 0 15 (dk_at dksX29_inMap_5 17 rfl rfl)
theorem dX29_inMap_134 : decode cX29_inMap 134 = .ok (.invokevirtual 82, 3) := dk_182 0 82 (dk_at dksX29_inMap_5 20 rfl rfl)
theorem dX29_inMap_137 : decode cX29_inMap 137 = .ok (.istore 5, 2) := dk_54 5 (dk_at dksX29_inMap_6 0 rfl rfl)
theorem dX29_inMap_139 : decode cX29_inMap 139 = .ok (.aload_n 1, 1) := dk_43 (dk_at dksX29_inMap_6 2 rfl rfl)
theorem dX29_inMap_140 : decode cX29_inMap 140 = .ok (.aload_n 0, 1) := dk_42 (dk_at dksX29_inMap_6 3 rfl rfl)
theorem dX29_inMap_141 : decode cX29_inMap 141 = .ok (.getfield 15, 3) := dk_180 0 15 (dk_at dksX29_inMap_6 4 rfl rfl)
theorem dX29_inMap_144 : decode cX29_inMap 144 = .ok (.iload_n 3, 1) := dk_29 (dk_at dksX29_inMap_6 7 rfl rfl)
theorem dX29_inMap_145 : decode cX29_inMap 145 = .ok (.invokevirtual 85, 3) := dk_182 0 85 (dk_at dksX29_inMap_6 8 rfl rfl)
theorem dX29_inMap_148 : decode cX29_inMap 148 = .ok (.iload 5, 2) := dk_21 5 (dk_at dksX29_inMap_6 11 rfl rfl)
theorem dX29_inMap_150 : decode cX29_inMap 150 = .ok (.i2l, 1) := dk_133 (dk_at dksX29_inMap_6 13 rfl rfl)
theorem dX29_inMap_151 : decode cX29_inMap 151 = .ok (.lreturn, 1) := dk_173 (dk_at dksX29_inMap_6 14 rfl rfl)
theorem dX29_inMap_152 : decode cX29_inMap 152 = .ok (.aload_n 1, 1) := dk_43 (dk_at dksX29_inMap_6 15 rfl rfl)
theorem dX29_inMap_153 : decode cX29_inMap 153 = .ok (.aload_n 0, 1) := dk_42 (dk_at dksX29_inMap_6 16 rfl rfl)
theorem dX29_inMap_154 : decode cX29_inMap 154 = .ok (.getfield 15, 3) := dk_180 0 15 (dk_at dksX29_inMap_6 17 rfl rfl)
theorem dX29_inMap_157 : decode cX29_inMap 157 = .ok (.invokevirtual 82, 3) := dk_182 0 82 (dk_at dksX29_inMap_6 20 rfl rfl)
theorem dX29_inMap_160 : decode cX29_inMap 160 = .ok (.i2l, 1) := dk_133 (dk_at dksX29_inMap_6 23 rfl rfl)
theorem dX29_inMap_161 : decode cX29_inMap 161 = .ok (.lreturn, 1) := dk_173 (dk_at dksX29_inMap_7 0 rfl rfl)
abbrev cX29_inList : ByteArray := prog_5_method_8_code
def yX29_inList : MethodName := ⟨RX29, "inList", "(LLibraryDesk$Places;II)J"⟩
def dkwX29_inList_11 : List UInt8 := [181, 0, 27, 42, 2, 181, 0, 15, 43, 182, 0, 89, 133, 173]
abbrev dktX29_inList_11 : List UInt8 := dkwX29_inList_11 ++ []
def dkwX29_inList_10 : List UInt8 := [29, 182, 0, 98, 21, 5, 133, 173, 43, 42, 180, 0, 27, 29, 182, 0, 101, 42, 89, 180, 0, 27, 4, 96]
abbrev dktX29_inList_10 : List UInt8 := dkwX29_inList_10 ++ dktX29_inList_11
def dkwX29_inList_9 : List UInt8 := [42, 2, 181, 0, 15, 21, 4, 133, 173, 43, 42, 180, 0, 15, 182, 0, 92, 54, 5, 43, 42, 180, 0, 15]
abbrev dktX29_inList_9 : List UInt8 := dkwX29_inList_9 ++ dktX29_inList_10
def dkwX29_inList_8 : List UInt8 := [182, 0, 95, 42, 180, 0, 15, 42, 180, 0, 27, 162, 0, 13, 42, 89, 180, 0, 27, 4, 100, 181, 0, 27]
abbrev dktX29_inList_8 : List UInt8 := dkwX29_inList_8 ++ dktX29_inList_9
def dkwX29_inList_7 : List UInt8 := [173, 42, 180, 0, 27, 133, 173, 43, 42, 180, 0, 15, 182, 0, 92, 54, 4, 43, 42, 180, 0, 15, 4]
abbrev dktX29_inList_7 : List UInt8 := dkwX29_inList_7 ++ dktX29_inList_8
def dkwX29_inList_6 : List UInt8 := [182, 0, 89, 162, 0, 7, 10, 167, 0, 4, 9, 173, 42, 180, 0, 27, 158, 0, 7, 10, 167, 0, 4, 9]
abbrev dktX29_inList_6 : List UInt8 := dkwX29_inList_6 ++ dktX29_inList_7
def dkwX29_inList_5 : List UInt8 := [42, 42, 180, 0, 27, 181, 0, 15, 43, 42, 180, 0, 15, 182, 0, 92, 133, 173, 42, 180, 0, 27, 43]
abbrev dktX29_inList_5 : List UInt8 := dkwX29_inList_5 ++ dktX29_inList_6
def dkwX29_inList_4 : List UInt8 := [180, 0, 27, 158, 0, 7, 4, 167, 0, 4, 3, 184, 0, 69, 42, 89, 180, 0, 27, 4, 100, 181, 0, 27]
abbrev dktX29_inList_4 : List UInt8 := dkwX29_inList_4 ++ dktX29_inList_5
def dkwX29_inList_3 : List UInt8 := [181, 0, 15, 42, 89, 180, 0, 27, 4, 96, 181, 0, 27, 43, 42, 180, 0, 15, 182, 0, 92, 133, 173, 42]
abbrev dktX29_inList_3 : List UInt8 := dkwX29_inList_3 ++ dktX29_inList_4
def dkwX29_inList_2 : List UInt8 := [42, 180, 0, 27, 43, 182, 0, 89, 162, 0, 7, 4, 167, 0, 4, 3, 184, 0, 69, 42, 42, 180, 0, 27]
abbrev dktX29_inList_2 : List UInt8 := dkwX29_inList_2 ++ dktX29_inList_3
def dkwX29_inList_1 : List UInt8 := [170, 0, 0, 0, 0, 0, 241, 0, 0, 0, 0, 0, 0, 0, 6, 0, 0, 0, 43, 0, 0, 0, 90, 0, 0, 0, 133, 0, 0, 0, 150, 0, 0, 0, 163, 0, 0, 0, 169, 0, 0, 0, 218]
abbrev dktX29_inList_1 : List UInt8 := dkwX29_inList_1 ++ dktX29_inList_2
def dkwX29_inList_0 : List UInt8 := [28]
abbrev dktX29_inList_0 : List UInt8 := dkwX29_inList_0 ++ dktX29_inList_1
theorem dksX29_inList_0 : cX29_inList.data.toList.drop 0 = dktX29_inList_0 := by decide +kernel
theorem dksX29_inList_1 : cX29_inList.data.toList.drop 1 = dktX29_inList_1 := dk_seg dksX29_inList_0 1 rfl rfl
theorem dksX29_inList_2 : cX29_inList.data.toList.drop 44 = dktX29_inList_2 := dk_seg dksX29_inList_1 43 rfl rfl
theorem dksX29_inList_3 : cX29_inList.data.toList.drop 68 = dktX29_inList_3 := dk_seg dksX29_inList_2 24 rfl rfl
theorem dksX29_inList_4 : cX29_inList.data.toList.drop 92 = dktX29_inList_4 := dk_seg dksX29_inList_3 24 rfl rfl
theorem dksX29_inList_5 : cX29_inList.data.toList.drop 116 = dktX29_inList_5 := dk_seg dksX29_inList_4 24 rfl rfl
theorem dksX29_inList_6 : cX29_inList.data.toList.drop 139 = dktX29_inList_6 := dk_seg dksX29_inList_5 23 rfl rfl
theorem dksX29_inList_7 : cX29_inList.data.toList.drop 163 = dktX29_inList_7 := dk_seg dksX29_inList_6 24 rfl rfl
theorem dksX29_inList_8 : cX29_inList.data.toList.drop 186 = dktX29_inList_8 := dk_seg dksX29_inList_7 23 rfl rfl
theorem dksX29_inList_9 : cX29_inList.data.toList.drop 210 = dktX29_inList_9 := dk_seg dksX29_inList_8 24 rfl rfl
theorem dksX29_inList_10 : cX29_inList.data.toList.drop 234 = dktX29_inList_10 := dk_seg dksX29_inList_9 24 rfl rfl
theorem dksX29_inList_11 : cX29_inList.data.toList.drop 258 = dktX29_inList_11 := dk_seg dksX29_inList_10 24 rfl rfl
theorem dX29_inList_0 : decode cX29_inList 0 = .ok (.iload_n 2, 1) := dk_28 (dk_at dksX29_inList_0 0 rfl rfl)
theorem dX29_inList_1 : decode cX29_inList 1 = .ok (.tableswitch 241 0 6 #[43, 90, 133, 150, 163, 169, 218], 43) := by decide +kernel
theorem dX29_inList_44 : decode cX29_inList 44 = .ok (.aload_n 0, 1) := dk_42 (dk_at dksX29_inList_2 0 rfl rfl)
theorem dX29_inList_45 : decode cX29_inList 45 = .ok (.getfield 27, 3) := dk_180 0 27 (dk_at dksX29_inList_2 1 rfl rfl)
theorem dX29_inList_48 : decode cX29_inList 48 = .ok (.aload_n 1, 1) := dk_43 (dk_at dksX29_inList_2 4 rfl rfl)
theorem dX29_inList_49 : decode cX29_inList 49 = .ok (.invokevirtual 89, 3) := dk_182 0 89 (dk_at dksX29_inList_2 5 rfl rfl)
theorem dX29_inList_52 : decode cX29_inList 52 = .ok (.if_icmp .ge 7, 3) := dk_162 0 7 (dk_at dksX29_inList_2 8 rfl rfl)
theorem dX29_inList_55 : decode cX29_inList 55 = .ok (.iconst 1, 1) := dk_4 (dk_at dksX29_inList_2 11 rfl rfl)
theorem dX29_inList_56 : decode cX29_inList 56 = .ok (.goto 4, 3) := dk_167 0 4 (dk_at dksX29_inList_2 12 rfl rfl)
theorem dX29_inList_59 : decode cX29_inList 59 = .ok (.iconst 0, 1) := dk_3 (dk_at dksX29_inList_2 15 rfl rfl)
theorem dX29_inList_60 : decode cX29_inList 60 = .ok (.invokestatic 69, 3) := dk_184 0 69 (dk_at dksX29_inList_2 16 rfl rfl)
theorem dX29_inList_63 : decode cX29_inList 63 = .ok (.aload_n 0, 1) := dk_42 (dk_at dksX29_inList_2 19 rfl rfl)
theorem dX29_inList_64 : decode cX29_inList 64 = .ok (.aload_n 0, 1) := dk_42 (dk_at dksX29_inList_2 20 rfl rfl)
theorem dX29_inList_65 : decode cX29_inList 65 = .ok (.getfield 27, 3) := dk_180 0 27 (dk_at dksX29_inList_2 21 rfl rfl)
theorem dX29_inList_68 : decode cX29_inList 68 = .ok (.putfield 15, 3) := dk_181 0 15 (dk_at dksX29_inList_3 0 rfl rfl)
theorem dX29_inList_71 : decode cX29_inList 71 = .ok (.aload_n 0, 1) := dk_42 (dk_at dksX29_inList_3 3 rfl rfl)
theorem dX29_inList_72 : decode cX29_inList 72 = .ok (.dup, 1) := dk_89 (dk_at dksX29_inList_3 4 rfl rfl)
theorem dX29_inList_73 : decode cX29_inList 73 = .ok (.getfield 27, 3) := dk_180 0 27 (dk_at dksX29_inList_3 5 rfl rfl)
theorem dX29_inList_76 : decode cX29_inList 76 = .ok (.iconst 1, 1) := dk_4 (dk_at dksX29_inList_3 8 rfl rfl)
theorem dX29_inList_77 : decode cX29_inList 77 = .ok (.iadd, 1) := dk_96 (dk_at dksX29_inList_3 9 rfl rfl)
theorem dX29_inList_78 : decode cX29_inList 78 = .ok (.putfield 27, 3) := dk_181 0 27 (dk_at dksX29_inList_3 10 rfl rfl)
theorem dX29_inList_81 : decode cX29_inList 81 = .ok (.aload_n 1, 1) := dk_43 (dk_at dksX29_inList_3 13 rfl rfl)
theorem dX29_inList_82 : decode cX29_inList 82 = .ok (.aload_n 0, 1) := dk_42 (dk_at dksX29_inList_3 14 rfl rfl)
theorem dX29_inList_83 : decode cX29_inList 83 = .ok (.getfield 15, 3) := dk_180 0 15 (dk_at dksX29_inList_3 15 rfl rfl)
theorem dX29_inList_86 : decode cX29_inList 86 = .ok (.invokevirtual 92, 3) := dk_182 0 92 (dk_at dksX29_inList_3 18 rfl rfl)
theorem dX29_inList_89 : decode cX29_inList 89 = .ok (.i2l, 1) := dk_133 (dk_at dksX29_inList_3 21 rfl rfl)
theorem dX29_inList_90 : decode cX29_inList 90 = .ok (.lreturn, 1) := dk_173 (dk_at dksX29_inList_3 22 rfl rfl)
theorem dX29_inList_91 : decode cX29_inList 91 = .ok (.aload_n 0, 1) := dk_42 (dk_at dksX29_inList_3 23 rfl rfl)
theorem dX29_inList_92 : decode cX29_inList 92 = .ok (.getfield 27, 3) := dk_180 0 27 (dk_at dksX29_inList_4 0 rfl rfl)
theorem dX29_inList_95 : decode cX29_inList 95 = .ok (.ifCond .le 7, 3) := dk_158 0 7 (dk_at dksX29_inList_4 3 rfl rfl)
theorem dX29_inList_98 : decode cX29_inList 98 = .ok (.iconst 1, 1) := dk_4 (dk_at dksX29_inList_4 6 rfl rfl)
theorem dX29_inList_99 : decode cX29_inList 99 = .ok (.goto 4, 3) := dk_167 0 4 (dk_at dksX29_inList_4 7 rfl rfl)
theorem dX29_inList_102 : decode cX29_inList 102 = .ok (.iconst 0, 1) := dk_3 (dk_at dksX29_inList_4 10 rfl rfl)
theorem dX29_inList_103 : decode cX29_inList 103 = .ok (.invokestatic 69, 3) := dk_184 0 69 (dk_at dksX29_inList_4 11 rfl rfl)
theorem dX29_inList_106 : decode cX29_inList 106 = .ok (.aload_n 0, 1) := dk_42 (dk_at dksX29_inList_4 14 rfl rfl)
theorem dX29_inList_107 : decode cX29_inList 107 = .ok (.dup, 1) := dk_89 (dk_at dksX29_inList_4 15 rfl rfl)
theorem dX29_inList_108 : decode cX29_inList 108 = .ok (.getfield 27, 3) := dk_180 0 27 (dk_at dksX29_inList_4 16 rfl rfl)
theorem dX29_inList_111 : decode cX29_inList 111 = .ok (.iconst 1, 1) := dk_4 (dk_at dksX29_inList_4 19 rfl rfl)
theorem dX29_inList_112 : decode cX29_inList 112 = .ok (.isub, 1) := dk_100 (dk_at dksX29_inList_4 20 rfl rfl)
theorem dX29_inList_113 : decode cX29_inList 113 = .ok (.putfield 27, 3) := dk_181 0 27 (dk_at dksX29_inList_4 21 rfl rfl)
theorem dX29_inList_116 : decode cX29_inList 116 = .ok (.aload_n 0, 1) := dk_42 (dk_at dksX29_inList_5 0 rfl rfl)
theorem dX29_inList_117 : decode cX29_inList 117 = .ok (.aload_n 0, 1) := dk_42 (dk_at dksX29_inList_5 1 rfl rfl)
theorem dX29_inList_118 : decode cX29_inList 118 = .ok (.getfield 27, 3) := dk_180 0 27 (dk_at dksX29_inList_5 2 rfl rfl)
theorem dX29_inList_121 : decode cX29_inList 121 = .ok (.putfield 15, 3) := dk_181 0 15 (dk_at dksX29_inList_5 5 rfl rfl)
theorem dX29_inList_124 : decode cX29_inList 124 = .ok (.aload_n 1, 1) := dk_43 (dk_at dksX29_inList_5 8 rfl rfl)
theorem dX29_inList_125 : decode cX29_inList 125 = .ok (.aload_n 0, 1) := dk_42 (dk_at dksX29_inList_5 9 rfl rfl)
theorem dX29_inList_126 : decode cX29_inList 126 = .ok (.getfield 15, 3) := dk_180 0 15 (dk_at dksX29_inList_5 10 rfl rfl)
theorem dX29_inList_129 : decode cX29_inList 129 = .ok (.invokevirtual 92, 3) := dk_182 0 92 (dk_at dksX29_inList_5 13 rfl rfl)
theorem dX29_inList_132 : decode cX29_inList 132 = .ok (.i2l, 1) := dk_133 (dk_at dksX29_inList_5 16 rfl rfl)
theorem dX29_inList_133 : decode cX29_inList 133 = .ok (.lreturn, 1) := dk_173 (dk_at dksX29_inList_5 17 rfl rfl)
theorem dX29_inList_134 : decode cX29_inList 134 = .ok (.aload_n 0, 1) := dk_42 (dk_at dksX29_inList_5 18 rfl rfl)
theorem dX29_inList_135 : decode cX29_inList 135 = .ok (.getfield 27, 3) := dk_180 0 27 (dk_at dksX29_inList_5 19 rfl rfl)
theorem dX29_inList_138 : decode cX29_inList 138 = .ok (.aload_n 1, 1) := dk_43 (dk_at dksX29_inList_5 22 rfl rfl)
theorem dX29_inList_139 : decode cX29_inList 139 = .ok (.invokevirtual 89, 3) := dk_182 0 89 (dk_at dksX29_inList_6 0 rfl rfl)
theorem dX29_inList_142 : decode cX29_inList 142 = .ok (.if_icmp .ge 7, 3) := dk_162 0 7 (dk_at dksX29_inList_6 3 rfl rfl)
theorem dX29_inList_145 : decode cX29_inList 145 = .ok (.lconst 1, 1) := dk_10 (dk_at dksX29_inList_6 6 rfl rfl)
theorem dX29_inList_146 : decode cX29_inList 146 = .ok (.goto 4, 3) := dk_167 0 4 (dk_at dksX29_inList_6 7 rfl rfl)
theorem dX29_inList_149 : decode cX29_inList 149 = .ok (.lconst 0, 1) := dk_9 (dk_at dksX29_inList_6 10 rfl rfl)
theorem dX29_inList_150 : decode cX29_inList 150 = .ok (.lreturn, 1) := dk_173 (dk_at dksX29_inList_6 11 rfl rfl)
theorem dX29_inList_151 : decode cX29_inList 151 = .ok (.aload_n 0, 1) := dk_42 (dk_at dksX29_inList_6 12 rfl rfl)
theorem dX29_inList_152 : decode cX29_inList 152 = .ok (.getfield 27, 3) := dk_180 0 27 (dk_at dksX29_inList_6 13 rfl rfl)
theorem dX29_inList_155 : decode cX29_inList 155 = .ok (.ifCond .le 7, 3) := dk_158 0 7 (dk_at dksX29_inList_6 16 rfl rfl)
theorem dX29_inList_158 : decode cX29_inList 158 = .ok (.lconst 1, 1) := dk_10 (dk_at dksX29_inList_6 19 rfl rfl)
theorem dX29_inList_159 : decode cX29_inList 159 = .ok (.goto 4, 3) := dk_167 0 4 (dk_at dksX29_inList_6 20 rfl rfl)
theorem dX29_inList_162 : decode cX29_inList 162 = .ok (.lconst 0, 1) := dk_9 (dk_at dksX29_inList_6 23 rfl rfl)
theorem dX29_inList_163 : decode cX29_inList 163 = .ok (.lreturn, 1) := dk_173 (dk_at dksX29_inList_7 0 rfl rfl)
theorem dX29_inList_164 : decode cX29_inList 164 = .ok (.aload_n 0, 1) := dk_42 (dk_at dksX29_inList_7 1 rfl rfl)
theorem dX29_inList_165 : decode cX29_inList 165 = .ok (.getfield 27, 3) := dk_180 0 27 (dk_at dksX29_inList_7 2 rfl rfl)
theorem dX29_inList_168 : decode cX29_inList 168 = .ok (.i2l, 1) := dk_133 (dk_at dksX29_inList_7 5 rfl rfl)
theorem dX29_inList_169 : decode cX29_inList 169 = .ok (.lreturn, 1) := dk_173 (dk_at dksX29_inList_7 6 rfl rfl)
theorem dX29_inList_170 : decode cX29_inList 170 = .ok (.aload_n 1, 1) := dk_43 (dk_at dksX29_inList_7 7 rfl rfl)
theorem dX29_inList_171 : decode cX29_inList 171 = .ok (.aload_n 0, 1) := dk_42 (dk_at dksX29_inList_7 8 rfl rfl)
theorem dX29_inList_172 : decode cX29_inList 172 = .ok (.getfield 15, 3) := dk_180 0 15 (dk_at dksX29_inList_7 9 rfl rfl)
theorem dX29_inList_175 : decode cX29_inList 175 = .ok (.invokevirtual 92, 3) := dk_182 0 92 (dk_at dksX29_inList_7 12 rfl rfl)
theorem dX29_inList_178 : decode cX29_inList 178 = .ok (.istore 4, 2) := dk_54 4 (dk_at dksX29_inList_7 15 rfl rfl)
theorem dX29_inList_180 : decode cX29_inList 180 = .ok (.aload_n 1, 1) := dk_43 (dk_at dksX29_inList_7 17 rfl rfl)
theorem dX29_inList_181 : decode cX29_inList 181 = .ok (.aload_n 0, 1) := dk_42 (dk_at dksX29_inList_7 18 rfl rfl)
theorem dX29_inList_182 : decode cX29_inList 182 = .ok (.getfield 15, 3) := dk_180 0 15 (dk_at dksX29_inList_7 19 rfl rfl)
theorem dX29_inList_185 : decode cX29_inList 185 = .ok (.iconst 1, 1) := dk_4 (dk_at dksX29_inList_7 22 rfl rfl)
theorem dX29_inList_186 : decode cX29_inList 186 = .ok (.invokevirtual 95, 3) := dk_182 0 95 (dk_at dksX29_inList_8 0 rfl rfl)
theorem dX29_inList_189 : decode cX29_inList 189 = .ok (.aload_n 0, 1) := dk_42 (dk_at dksX29_inList_8 3 rfl rfl)
theorem dX29_inList_190 : decode cX29_inList 190 = .ok (.getfield 15, 3) := dk_180 0 15 (dk_at dksX29_inList_8 4 rfl rfl)
theorem dX29_inList_193 : decode cX29_inList 193 = .ok (.aload_n 0, 1) := dk_42 (dk_at dksX29_inList_8 7 rfl rfl)
theorem dX29_inList_194 : decode cX29_inList 194 = .ok (.getfield 27, 3) := dk_180 0 27 (dk_at dksX29_inList_8 8 rfl rfl)
theorem dX29_inList_197 : decode cX29_inList 197 = .ok (.if_icmp .ge 13, 3) := dk_162 0 13 (dk_at dksX29_inList_8 11 rfl rfl)
theorem dX29_inList_200 : decode cX29_inList 200 = .ok (.aload_n 0, 1) := dk_42 (dk_at dksX29_inList_8 14 rfl rfl)
theorem dX29_inList_201 : decode cX29_inList 201 = .ok (.dup, 1) := dk_89 (dk_at dksX29_inList_8 15 rfl rfl)
theorem dX29_inList_202 : decode cX29_inList 202 = .ok (.getfield 27, 3) := dk_180 0 27 (dk_at dksX29_inList_8 16 rfl rfl)
theorem dX29_inList_205 : decode cX29_inList 205 = .ok (.iconst 1, 1) := dk_4 (dk_at dksX29_inList_8 19 rfl rfl)
theorem dX29_inList_206 : decode cX29_inList 206 = .ok (.isub, 1) := dk_100 (dk_at dksX29_inList_8 20 rfl rfl)
theorem dX29_inList_207 : decode cX29_inList 207 = .ok (.putfield 27, 3) := dk_181 0 27 (dk_at dksX29_inList_8 21 rfl rfl)
theorem dX29_inList_210 : decode cX29_inList 210 = .ok (.aload_n 0, 1) := dk_42 (dk_at dksX29_inList_9 0 rfl rfl)
theorem dX29_inList_211 : decode cX29_inList 211 = .ok (.iconst (-1), 1) := dk_2 (dk_at dksX29_inList_9 1 rfl rfl)
theorem dX29_inList_212 : decode cX29_inList 212 = .ok (.putfield 15, 3) := dk_181 0 15 (dk_at dksX29_inList_9 2 rfl rfl)
theorem dX29_inList_215 : decode cX29_inList 215 = .ok (.iload 4, 2) := dk_21 4 (dk_at dksX29_inList_9 5 rfl rfl)
theorem dX29_inList_217 : decode cX29_inList 217 = .ok (.i2l, 1) := dk_133 (dk_at dksX29_inList_9 7 rfl rfl)
theorem dX29_inList_218 : decode cX29_inList 218 = .ok (.lreturn, 1) := dk_173 (dk_at dksX29_inList_9 8 rfl rfl)
theorem dX29_inList_219 : decode cX29_inList 219 = .ok (.aload_n 1, 1) := dk_43 (dk_at dksX29_inList_9 9 rfl rfl)
theorem dX29_inList_220 : decode cX29_inList 220 = .ok (.aload_n 0, 1) := dk_42 (dk_at dksX29_inList_9 10 rfl rfl)
theorem dX29_inList_221 : decode cX29_inList 221 = .ok (.getfield 15, 3) := dk_180 0 15 (dk_at dksX29_inList_9 11 rfl rfl)
theorem dX29_inList_224 : decode cX29_inList 224 = .ok (.invokevirtual 92, 3) := dk_182 0 92 (dk_at dksX29_inList_9 14 rfl rfl)
theorem dX29_inList_227 : decode cX29_inList 227 = .ok (.istore 5, 2) := dk_54 5 (dk_at dksX29_inList_9 17 rfl rfl)
theorem dX29_inList_229 : decode cX29_inList 229 = .ok (.aload_n 1, 1) := dk_43 (dk_at dksX29_inList_9 19 rfl rfl)
theorem dX29_inList_230 : decode cX29_inList 230 = .ok (.aload_n 0, 1) := dk_42 (dk_at dksX29_inList_9 20 rfl rfl)
theorem dX29_inList_231 : decode cX29_inList 231 = .ok (.getfield 15, 3) := dk_180 0 15 (dk_at dksX29_inList_9 21 rfl rfl)
theorem dX29_inList_234 : decode cX29_inList 234 = .ok (.iload_n 3, 1) := dk_29 (dk_at dksX29_inList_10 0 rfl rfl)
theorem dX29_inList_235 : decode cX29_inList 235 = .ok (.invokevirtual 98, 3) := dk_182 0 98 (dk_at dksX29_inList_10 1 rfl rfl)
theorem dX29_inList_238 : decode cX29_inList 238 = .ok (.iload 5, 2) := dk_21 5 (dk_at dksX29_inList_10 4 rfl rfl)
theorem dX29_inList_240 : decode cX29_inList 240 = .ok (.i2l, 1) := dk_133 (dk_at dksX29_inList_10 6 rfl rfl)
theorem dX29_inList_241 : decode cX29_inList 241 = .ok (.lreturn, 1) := dk_173 (dk_at dksX29_inList_10 7 rfl rfl)
theorem dX29_inList_242 : decode cX29_inList 242 = .ok (.aload_n 1, 1) := dk_43 (dk_at dksX29_inList_10 8 rfl rfl)
theorem dX29_inList_243 : decode cX29_inList 243 = .ok (.aload_n 0, 1) := dk_42 (dk_at dksX29_inList_10 9 rfl rfl)
theorem dX29_inList_244 : decode cX29_inList 244 = .ok (.getfield 27, 3) := dk_180 0 27 (dk_at dksX29_inList_10 10 rfl rfl)
theorem dX29_inList_247 : decode cX29_inList 247 = .ok (.iload_n 3, 1) := dk_29 (dk_at dksX29_inList_10 13 rfl rfl)
theorem dX29_inList_248 : decode cX29_inList 248 = .ok (.invokevirtual 101, 3) := dk_182 0 101 (dk_at dksX29_inList_10 14 rfl rfl)
theorem dX29_inList_251 : decode cX29_inList 251 = .ok (.aload_n 0, 1) := dk_42 (dk_at dksX29_inList_10 17 rfl rfl)
theorem dX29_inList_252 : decode cX29_inList 252 = .ok (.dup, 1) := dk_89 (dk_at dksX29_inList_10 18 rfl rfl)
theorem dX29_inList_253 : decode cX29_inList 253 = .ok (.getfield 27, 3) := dk_180 0 27 (dk_at dksX29_inList_10 19 rfl rfl)
theorem dX29_inList_256 : decode cX29_inList 256 = .ok (.iconst 1, 1) := dk_4 (dk_at dksX29_inList_10 22 rfl rfl)
theorem dX29_inList_257 : decode cX29_inList 257 = .ok (.iadd, 1) := dk_96 (dk_at dksX29_inList_10 23 rfl rfl)
theorem dX29_inList_258 : decode cX29_inList 258 = .ok (.putfield 27, 3) := dk_181 0 27 (dk_at dksX29_inList_11 0 rfl rfl)
theorem dX29_inList_261 : decode cX29_inList 261 = .ok (.aload_n 0, 1) := dk_42 (dk_at dksX29_inList_11 3 rfl rfl)
theorem dX29_inList_262 : decode cX29_inList 262 = .ok (.iconst (-1), 1) := dk_2 (dk_at dksX29_inList_11 4 rfl rfl)
theorem dX29_inList_263 : decode cX29_inList 263 = .ok (.putfield 15, 3) := dk_181 0 15 (dk_at dksX29_inList_11 5 rfl rfl)
theorem dX29_inList_266 : decode cX29_inList 266 = .ok (.aload_n 1, 1) := dk_43 (dk_at dksX29_inList_11 8 rfl rfl)
theorem dX29_inList_267 : decode cX29_inList 267 = .ok (.invokevirtual 89, 3) := dk_182 0 89 (dk_at dksX29_inList_11 9 rfl rfl)
theorem dX29_inList_270 : decode cX29_inList 270 = .ok (.i2l, 1) := dk_133 (dk_at dksX29_inList_11 12 rfl rfl)
theorem dX29_inList_271 : decode cX29_inList 271 = .ok (.lreturn, 1) := dk_173 (dk_at dksX29_inList_11 13 rfl rfl)
theorem q545 : (Jvm.Cond.initialized "LibraryDesk$CursorThing") ∈ lw_all := lw_g (lw_at lw_m1 38 rfl) rfl
theorem q1390 : (Jvm.Cond.fieldLinkNest "LibraryDesk$CursorThing" (40 : Nat) "LibraryDesk$Rows" "changes" "I" "LibraryDesk") ∈ lw_tbl := lw_at lw_m4 163 rfl
theorem q1699 : (Jvm.Cond.instantiable "LibraryDesk$CursorThing" (6 : Nat)) ∈ lw_all := lw_g (lw_at lw_m5 232 rfl) rfl
theorem q1701 : (Jvm.Cond.instanceMethod ({ cls := "LibraryDesk$CursorThing", name := "<init>", desc := "()V" } : Jvm.MethodName)) ∈ lw_all := lw_g (lw_at lw_m5 234 rfl) rfl
theorem q1702 : (Jvm.Cond.code ({ cls := "LibraryDesk$CursorThing", name := "<init>", desc := "()V" } : Jvm.MethodName) prog_5_method_1_code (1 : Nat) (Option.none : Option Jvm.ClassFile.FieldType)) ∈ lw_all := lw_g (lw_at lw_m5 235 rfl) rfl
theorem q1703 : (Jvm.Cond.methodLinkNest "LibraryDesk$CursorThing" (3 : Nat) ({ cls := "LibraryDesk$Thing", name := "<init>", desc := "(I)V" } : Jvm.MethodName) "LibraryDesk") ∈ lw_tbl := lw_at lw_m5 236 rfl
theorem q1704 : (Jvm.Cond.fieldLink "LibraryDesk$CursorThing" (9 : Nat) "LibraryDesk$CursorThing" "of" "LLibraryDesk$Thing;") ∈ lw_all := lw_g (lw_at lw_m5 237 rfl) rfl
theorem q1705 : (Jvm.Cond.fieldLink "LibraryDesk$CursorThing" (27 : Nat) "LibraryDesk$CursorThing" "place" "I") ∈ lw_all := lw_g (lw_at lw_m5 238 rfl) rfl
theorem q1706 : (Jvm.Cond.fieldLink "LibraryDesk$CursorThing" (15 : Nat) "LibraryDesk$CursorThing" "passed" "I") ∈ lw_all := lw_g (lw_at lw_m5 239 rfl) rfl
theorem q1707 : (Jvm.Cond.fieldLink "LibraryDesk$CursorThing" (33 : Nat) "LibraryDesk$CursorThing" "changes" "I") ∈ lw_all := lw_g (lw_at lw_m6 0 rfl) rfl
theorem q1708 : (Jvm.Cond.lays "LibraryDesk$CursorThing" "LibraryDesk$CursorThing" "of" "LLibraryDesk$Thing;") ∈ lw_all := lw_g (lw_at lw_m6 1 rfl) rfl
theorem q1709 : (Jvm.Cond.soleField "LibraryDesk$CursorThing" "of") ∈ lw_all := lw_g (lw_at lw_m6 2 rfl) rfl
theorem q1710 : (Jvm.Cond.lays "LibraryDesk$CursorThing" "LibraryDesk$CursorThing" "place" "I") ∈ lw_all := lw_g (lw_at lw_m6 3 rfl) rfl
theorem q1711 : (Jvm.Cond.soleField "LibraryDesk$CursorThing" "place") ∈ lw_all := lw_g (lw_at lw_m6 4 rfl) rfl
theorem q1712 : (Jvm.Cond.lays "LibraryDesk$CursorThing" "LibraryDesk$CursorThing" "passed" "I") ∈ lw_all := lw_g (lw_at lw_m6 5 rfl) rfl
theorem q1713 : (Jvm.Cond.soleField "LibraryDesk$CursorThing" "passed") ∈ lw_all := lw_g (lw_at lw_m6 6 rfl) rfl
theorem q1714 : (Jvm.Cond.lays "LibraryDesk$CursorThing" "LibraryDesk$CursorThing" "changes" "I") ∈ lw_all := lw_g (lw_at lw_m6 7 rfl) rfl
theorem q1715 : (Jvm.Cond.soleField "LibraryDesk$CursorThing" "changes") ∈ lw_all := lw_g (lw_at lw_m6 8 rfl) rfl
theorem q1716 : (Jvm.Cond.laysFinal "LibraryDesk$CursorThing" "LibraryDesk$Thing" "kind" "I") ∈ lw_all := lw_g (lw_at lw_m6 9 rfl) rfl
theorem q1717 : (Jvm.Cond.lays "LibraryDesk$CursorThing" "LibraryDesk$Thing" "used" "Z") ∈ lw_all := lw_g (lw_at lw_m6 10 rfl) rfl
theorem q1718 : (Jvm.Cond.superclass "LibraryDesk$CursorThing" "LibraryDesk$Thing") ∈ lw_all := lw_g (lw_at lw_m6 11 rfl) rfl
theorem q2829 : (Jvm.Cond.privateMethod ({ cls := "LibraryDesk$CursorThing", name := "begin", desc := "(LLibraryDesk$Thing;)V" } : Jvm.MethodName)) ∈ lw_tbl := lw_at lw_m10 162 rfl
theorem q2830 : (Jvm.Cond.instanceMethod ({ cls := "LibraryDesk$CursorThing", name := "begin", desc := "(LLibraryDesk$Thing;)V" } : Jvm.MethodName)) ∈ lw_all := lw_g (lw_at lw_m10 163 rfl) rfl
theorem q2831 : (Jvm.Cond.code ({ cls := "LibraryDesk$CursorThing", name := "begin", desc := "(LLibraryDesk$Thing;)V" } : Jvm.MethodName) prog_5_method_2_code (2 : Nat) (Option.none : Option Jvm.ClassFile.FieldType)) ∈ lw_all := lw_g (lw_at lw_m10 164 rfl) rfl
theorem q2832 : (Jvm.Cond.classLink "LibraryDesk$CursorThing" (19 : Nat) "LibraryDesk$Places") ∈ lw_all := lw_g (lw_at lw_m10 165 rfl) rfl
theorem q2833 : (Jvm.Cond.classLink "LibraryDesk$CursorThing" (21 : Nat) "LibraryDesk$Maps") ∈ lw_all := lw_g (lw_at lw_m10 166 rfl) rfl
theorem q2834 : (Jvm.Cond.methodLink "LibraryDesk$CursorThing" (23 : Nat) ({ cls := "LibraryDesk$Maps", name := "first", desc := "()I" } : Jvm.MethodName)) ∈ lw_all := lw_g (lw_at lw_m10 167 rfl) rfl
theorem q2835 : (Jvm.Cond.methodLink "LibraryDesk$CursorThing" (30 : Nat) ({ cls := "LibraryDesk$CursorThing", name := "now", desc := "()I" } : Jvm.MethodName)) ∈ lw_all := lw_g (lw_at lw_m10 168 rfl) rfl
theorem q2836 : (Jvm.Cond.privateMethod ({ cls := "LibraryDesk$CursorThing", name := "now", desc := "()I" } : Jvm.MethodName)) ∈ lw_tbl := lw_at lw_m10 169 rfl
theorem q2837 : (Jvm.Cond.instanceMethod ({ cls := "LibraryDesk$CursorThing", name := "now", desc := "()I" } : Jvm.MethodName)) ∈ lw_all := lw_g (lw_at lw_m10 170 rfl) rfl
theorem q2838 : (Jvm.Cond.code ({ cls := "LibraryDesk$CursorThing", name := "now", desc := "()I" } : Jvm.MethodName) prog_5_method_3_code (1 : Nat) (Option.some Jvm.ClassFile.FieldType.int)) ∈ lw_all := lw_g (lw_at lw_m10 171 rfl) rfl
theorem q2839 : (Jvm.Cond.methodLink "LibraryDesk$CursorThing" (36 : Nat) ({ cls := "LibraryDesk$Places", name := "rows", desc := "()LLibraryDesk$Rows;" } : Jvm.MethodName)) ∈ lw_all := lw_g (lw_at lw_m10 172 rfl) rfl
theorem q2840 : (Jvm.Cond.methodLink "LibraryDesk$CursorThing" (43 : Nat) ({ cls := "LibraryDesk$Maps", name := "changes", desc := "()I" } : Jvm.MethodName)) ∈ lw_all := lw_g (lw_at lw_m10 173 rfl) rfl
theorem q2863 : (Jvm.Cond.privateMethod ({ cls := "LibraryDesk$CursorThing", name := "call", desc := "(II)J" } : Jvm.MethodName)) ∈ lw_tbl := lw_at lw_m10 196 rfl
theorem q2864 : (Jvm.Cond.instanceMethod ({ cls := "LibraryDesk$CursorThing", name := "call", desc := "(II)J" } : Jvm.MethodName)) ∈ lw_all := lw_g (lw_at lw_m10 197 rfl) rfl
theorem q2865 : (Jvm.Cond.code ({ cls := "LibraryDesk$CursorThing", name := "call", desc := "(II)J" } : Jvm.MethodName) prog_5_method_6_code (5 : Nat) (Option.some Jvm.ClassFile.FieldType.long)) ∈ lw_all := lw_g (lw_at lw_m10 198 rfl) rfl
theorem q2866 : (Jvm.Cond.methodLink "LibraryDesk$CursorThing" (53 : Nat) ({ cls := "LibraryDesk$CursorThing", name := "check", desc := "()V" } : Jvm.MethodName)) ∈ lw_all := lw_g (lw_at lw_m10 199 rfl) rfl
theorem q2867 : (Jvm.Cond.privateMethod ({ cls := "LibraryDesk$CursorThing", name := "check", desc := "()V" } : Jvm.MethodName)) ∈ lw_tbl := lw_at lw_m10 200 rfl
theorem q2868 : (Jvm.Cond.instanceMethod ({ cls := "LibraryDesk$CursorThing", name := "check", desc := "()V" } : Jvm.MethodName)) ∈ lw_all := lw_g (lw_at lw_m10 201 rfl) rfl
theorem q2869 : (Jvm.Cond.code ({ cls := "LibraryDesk$CursorThing", name := "check", desc := "()V" } : Jvm.MethodName) prog_5_method_4_code (1 : Nat) (Option.none : Option Jvm.ClassFile.FieldType)) ∈ lw_all := lw_g (lw_at lw_m10 202 rfl) rfl
theorem q2870 : (Jvm.Cond.methodLink "LibraryDesk$CursorThing" (45 : Nat) ({ cls := "LibraryDesk$Places", name := "check", desc := "()V" } : Jvm.MethodName)) ∈ lw_all := lw_g (lw_at lw_m10 203 rfl) rfl
theorem q2871 : (Jvm.Cond.methodLinkNest "LibraryDesk$CursorThing" (49 : Nat) ({ cls := "LibraryDesk", name := "state", desc := "(Z)V" } : Jvm.MethodName) "LibraryDesk") ∈ lw_tbl := lw_at lw_m10 204 rfl
theorem q2872 : (Jvm.Cond.methodLink "LibraryDesk$CursorThing" (54 : Nat) ({ cls := "LibraryDesk$CursorThing", name := "isOfMap", desc := "()Z" } : Jvm.MethodName)) ∈ lw_all := lw_g (lw_at lw_m10 205 rfl) rfl
theorem q2873 : (Jvm.Cond.privateMethod ({ cls := "LibraryDesk$CursorThing", name := "isOfMap", desc := "()Z" } : Jvm.MethodName)) ∈ lw_tbl := lw_at lw_m10 206 rfl
theorem q2874 : (Jvm.Cond.instanceMethod ({ cls := "LibraryDesk$CursorThing", name := "isOfMap", desc := "()Z" } : Jvm.MethodName)) ∈ lw_all := lw_g (lw_at lw_m10 207 rfl) rfl
theorem q2875 : (Jvm.Cond.code ({ cls := "LibraryDesk$CursorThing", name := "isOfMap", desc := "()Z" } : Jvm.MethodName) prog_5_method_5_code (1 : Nat) (Option.some Jvm.ClassFile.FieldType.boolean)) ∈ lw_all := lw_g (lw_at lw_m10 208 rfl) rfl
theorem q2876 : (Jvm.Cond.methodLinkNest "LibraryDesk$CursorThing" (58 : Nat) ({ cls := "LibraryDesk", name := "can", desc := "(Z)V" } : Jvm.MethodName) "LibraryDesk") ∈ lw_tbl := lw_at lw_m10 209 rfl
theorem q2877 : (Jvm.Cond.methodLink "LibraryDesk$CursorThing" (61 : Nat) ({ cls := "LibraryDesk$CursorThing", name := "inMap", desc := "(LLibraryDesk$Maps;II)J" } : Jvm.MethodName)) ∈ lw_all := lw_g (lw_at lw_m10 210 rfl) rfl
theorem q2878 : (Jvm.Cond.privateMethod ({ cls := "LibraryDesk$CursorThing", name := "inMap", desc := "(LLibraryDesk$Maps;II)J" } : Jvm.MethodName)) ∈ lw_tbl := lw_at lw_m10 211 rfl
theorem q2879 : (Jvm.Cond.instanceMethod ({ cls := "LibraryDesk$CursorThing", name := "inMap", desc := "(LLibraryDesk$Maps;II)J" } : Jvm.MethodName)) ∈ lw_all := lw_g (lw_at lw_m10 212 rfl) rfl
theorem q2880 : (Jvm.Cond.code ({ cls := "LibraryDesk$CursorThing", name := "inMap", desc := "(LLibraryDesk$Maps;II)J" } : Jvm.MethodName) prog_5_method_7_code (6 : Nat) (Option.some Jvm.ClassFile.FieldType.long)) ∈ lw_all := lw_g (lw_at lw_m10 213 rfl) rfl
theorem q2881 : (Jvm.Cond.methodLinkNest "LibraryDesk$CursorThing" (69 : Nat) ({ cls := "LibraryDesk", name := "there", desc := "(Z)V" } : Jvm.MethodName) "LibraryDesk") ∈ lw_tbl := lw_at lw_m10 214 rfl
theorem q2882 : (Jvm.Cond.methodLink "LibraryDesk$CursorThing" (72 : Nat) ({ cls := "LibraryDesk$Maps", name := "next", desc := "(I)I" } : Jvm.MethodName)) ∈ lw_all := lw_g (lw_at lw_m10 215 rfl) rfl
theorem q2883 : (Jvm.Cond.methodLink "LibraryDesk$CursorThing" (76 : Nat) ({ cls := "LibraryDesk$Maps", name := "key", desc := "(I)I" } : Jvm.MethodName)) ∈ lw_all := lw_g (lw_at lw_m10 216 rfl) rfl
theorem q2884 : (Jvm.Cond.methodLink "LibraryDesk$CursorThing" (79 : Nat) ({ cls := "LibraryDesk$Maps", name := "remove", desc := "(I)V" } : Jvm.MethodName)) ∈ lw_all := lw_g (lw_at lw_m10 217 rfl) rfl
theorem q2885 : (Jvm.Cond.methodLink "LibraryDesk$CursorThing" (82 : Nat) ({ cls := "LibraryDesk$Maps", name := "value", desc := "(I)I" } : Jvm.MethodName)) ∈ lw_all := lw_g (lw_at lw_m10 218 rfl) rfl
theorem q2886 : (Jvm.Cond.methodLink "LibraryDesk$CursorThing" (85 : Nat) ({ cls := "LibraryDesk$Maps", name := "setValue", desc := "(II)V" } : Jvm.MethodName)) ∈ lw_all := lw_g (lw_at lw_m10 219 rfl) rfl
theorem q2887 : (Jvm.Cond.methodLink "LibraryDesk$CursorThing" (65 : Nat) ({ cls := "LibraryDesk$CursorThing", name := "inList", desc := "(LLibraryDesk$Places;II)J" } : Jvm.MethodName)) ∈ lw_all := lw_g (lw_at lw_m10 220 rfl) rfl
theorem q2888 : (Jvm.Cond.privateMethod ({ cls := "LibraryDesk$CursorThing", name := "inList", desc := "(LLibraryDesk$Places;II)J" } : Jvm.MethodName)) ∈ lw_tbl := lw_at lw_m10 221 rfl
theorem q2889 : (Jvm.Cond.instanceMethod ({ cls := "LibraryDesk$CursorThing", name := "inList", desc := "(LLibraryDesk$Places;II)J" } : Jvm.MethodName)) ∈ lw_all := lw_g (lw_at lw_m10 222 rfl) rfl
theorem q2890 : (Jvm.Cond.code ({ cls := "LibraryDesk$CursorThing", name := "inList", desc := "(LLibraryDesk$Places;II)J" } : Jvm.MethodName) prog_5_method_8_code (6 : Nat) (Option.some Jvm.ClassFile.FieldType.long)) ∈ lw_all := lw_g (lw_at lw_m10 223 rfl) rfl
theorem q2891 : (Jvm.Cond.methodLink "LibraryDesk$CursorThing" (89 : Nat) ({ cls := "LibraryDesk$Places", name := "size", desc := "()I" } : Jvm.MethodName)) ∈ lw_all := lw_g (lw_at lw_m10 224 rfl) rfl
theorem q2892 : (Jvm.Cond.methodLink "LibraryDesk$CursorThing" (92 : Nat) ({ cls := "LibraryDesk$Places", name := "get", desc := "(I)I" } : Jvm.MethodName)) ∈ lw_all := lw_g (lw_at lw_m10 225 rfl) rfl
theorem q2893 : (Jvm.Cond.methodLink "LibraryDesk$CursorThing" (95 : Nat) ({ cls := "LibraryDesk$Places", name := "close", desc := "(II)V" } : Jvm.MethodName)) ∈ lw_all := lw_g (lw_at lw_m10 226 rfl) rfl
theorem q2894 : (Jvm.Cond.methodLink "LibraryDesk$CursorThing" (98 : Nat) ({ cls := "LibraryDesk$Places", name := "put", desc := "(II)V" } : Jvm.MethodName)) ∈ lw_all := lw_g (lw_at lw_m10 227 rfl) rfl
theorem q2895 : (Jvm.Cond.methodLink "LibraryDesk$CursorThing" (101 : Nat) ({ cls := "LibraryDesk$Places", name := "insert", desc := "(II)V" } : Jvm.MethodName)) ∈ lw_all := lw_g (lw_at lw_m10 228 rfl) rfl
theorem q6083 : (Jvm.Cond.selects "LibraryDesk$CursorThing" ({ cls := "LibraryDesk$Thing", name := "kind", desc := "()I" } : Jvm.MethodName) ({ cls := "LibraryDesk$Thing", name := "kind", desc := "()I" } : Jvm.MethodName)) ∈ lw_all := lw_g (lw_at lw_m24 56 rfl) rfl
theorem q6137 : (Jvm.Cond.castable "LibraryDesk$CursorThing" "java/lang/Object") ∈ lw_tbl := lw_at lw_m24 110 rfl
theorem q6162 : (Jvm.Cond.castable "LibraryDesk$CursorThing" "LibraryDesk$Thing") ∈ lw_tbl := lw_at lw_m24 135 rfl
theorem in_X29 : ∀ w ∈ wsX290, w ∈ lw_all := lw_in wsX290 [1716, 1717, 1708, 1710, 1712, 1714] (by decide +kernel) (by decide +kernel)

/-! LibraryDesk$ViewThing -/
set_option maxRecDepth 100000
def RX30 : String := "LibraryDesk$ViewThing"
def TX30 : u_T := fun k => match k with
  | 0 => ("LibraryDesk$Thing", "kind", "I", true)
  | 1 => ("LibraryDesk$Thing", "used", "Z", false)
  | 2 => ("LibraryDesk$ViewThing", "of", "LLibraryDesk$Places;", false)
  | 3 => ("LibraryDesk$ViewThing", "from", "I", false)
  | 4 => ("LibraryDesk$ViewThing", "size", "I", false)
  | _ => ("LibraryDesk$ViewThing", "changes", "I", false)
def tyX30 : Nat → FieldType := fun k => match k with
  | 0 => .int
  | 1 => .boolean
  | 2 => .object "LibraryDesk$Places"
  | 3 => .int
  | 4 => .int
  | _ => .int
abbrev wsX300 : List Cond := u_ws RX30 TX30 6
theorem nmX30 : ∀ a, a < 6 → ∀ b, b < 6 → a ≠ b → (TX30 a).2.1 ≠ (TX30 b).2.1 := by decide +kernel
theorem tyX30_ok : ∀ k, k < 6 → parseFieldDescriptor (TX30 k).2.2.1 = some (tyX30 k) := by decide +kernel
abbrev cX30_init : ByteArray := prog_36_method_1_code
def yX30_init : MethodName := ⟨RX30, "<init>", "()V"⟩
def dkwX30_init_0 : List UInt8 := [42, 16, 10, 183, 0, 3, 177]
abbrev dktX30_init_0 : List UInt8 := dkwX30_init_0 ++ []
theorem dksX30_init_0 : cX30_init.data.toList.drop 0 = dktX30_init_0 := by decide +kernel
theorem dX30_init_0 : decode cX30_init 0 = .ok (.aload_n 0, 1) := dk_42 (dk_at dksX30_init_0 0 rfl rfl)
theorem dX30_init_1 : decode cX30_init 1 = .ok (.bipush 10, 2) := dk_16 10 (dk_at dksX30_init_0 1 rfl rfl)
theorem dX30_init_3 : decode cX30_init 3 = .ok (.invokespecial 3, 3) := dk_183 0 3 (dk_at dksX30_init_0 3 rfl rfl)
theorem dX30_init_6 : decode cX30_init 6 = .ok (.return_, 1) := dk_177 (dk_at dksX30_init_0 6 rfl rfl)
abbrev cX30_check : ByteArray := prog_36_method_6_code
def yX30_check : MethodName := ⟨RX30, "check", "()V"⟩
def dkwX30_check_0 : List UInt8 := [42, 180, 0, 34, 42, 182, 0, 25, 180, 0, 29, 160, 0, 7, 4, 167, 0, 4, 3, 184, 0, 36, 177]
abbrev dktX30_check_0 : List UInt8 := dkwX30_check_0 ++ []
theorem dksX30_check_0 : cX30_check.data.toList.drop 0 = dktX30_check_0 := by decide +kernel
theorem dX30_check_0 : decode cX30_check 0 = .ok (.aload_n 0, 1) := dk_42 (dk_at dksX30_check_0 0 rfl rfl)
theorem dX30_check_1 : decode cX30_check 1 = .ok (.getfield 34, 3) := dk_180 0 34 (dk_at dksX30_check_0 1 rfl rfl)
theorem dX30_check_4 : decode cX30_check 4 = .ok (.aload_n 0, 1) := dk_42 (dk_at dksX30_check_0 4 rfl rfl)
theorem dX30_check_5 : decode cX30_check 5 = .ok (.invokevirtual 25, 3) := dk_182 0 25 (dk_at dksX30_check_0 5 rfl rfl)
theorem dX30_check_8 : decode cX30_check 8 = .ok (.getfield 29, 3) := dk_180 0 29 (dk_at dksX30_check_0 8 rfl rfl)
theorem dX30_check_11 : decode cX30_check 11 = .ok (.if_icmp .ne 7, 3) := dk_160 0 7 (dk_at dksX30_check_0 11 rfl rfl)
theorem dX30_check_14 : decode cX30_check 14 = .ok (.iconst 1, 1) := dk_4 (dk_at dksX30_check_0 14 rfl rfl)
theorem dX30_check_15 : decode cX30_check 15 = .ok (.goto 4, 3) := dk_167 0 4 (dk_at dksX30_check_0 15 rfl rfl)
theorem dX30_check_18 : decode cX30_check 18 = .ok (.iconst 0, 1) := dk_3 (dk_at dksX30_check_0 18 rfl rfl)
theorem dX30_check_19 : decode cX30_check 19 = .ok (.invokestatic 36, 3) := dk_184 0 36 (dk_at dksX30_check_0 19 rfl rfl)
theorem dX30_check_22 : decode cX30_check 22 = .ok (.return_, 1) := dk_177 (dk_at dksX30_check_0 22 rfl rfl)
abbrev cX30_rows : ByteArray := prog_36_method_3_code
def yX30_rows : MethodName := ⟨RX30, "rows", "()LLibraryDesk$Rows;"⟩
def dkwX30_rows_0 : List UInt8 := [42, 180, 0, 9, 182, 0, 35, 176]
abbrev dktX30_rows_0 : List UInt8 := dkwX30_rows_0 ++ []
theorem dksX30_rows_0 : cX30_rows.data.toList.drop 0 = dktX30_rows_0 := by decide +kernel
theorem dX30_rows_0 : decode cX30_rows 0 = .ok (.aload_n 0, 1) := dk_42 (dk_at dksX30_rows_0 0 rfl rfl)
theorem dX30_rows_1 : decode cX30_rows 1 = .ok (.getfield 9, 3) := dk_180 0 9 (dk_at dksX30_rows_0 1 rfl rfl)
theorem dX30_rows_4 : decode cX30_rows 4 = .ok (.invokevirtual 35, 3) := dk_182 0 35 (dk_at dksX30_rows_0 4 rfl rfl)
theorem dX30_rows_7 : decode cX30_rows 7 = .ok (.areturn, 1) := dk_176 (dk_at dksX30_rows_0 7 rfl rfl)
abbrev cX30_size : ByteArray := prog_36_method_5_code
def yX30_size : MethodName := ⟨RX30, "size", "()I"⟩
theorem dX30_size_0 : decode cX30_size 0 = .ok (.aload_n 0, 1) := by decide +kernel
theorem dX30_size_1 : decode cX30_size 1 = .ok (.getfield 22, 3) := by decide +kernel
theorem dX30_size_4 : decode cX30_size 4 = .ok (.ireturn, 1) := by decide +kernel
abbrev cX30_from : ByteArray := prog_36_method_4_code
def yX30_from : MethodName := ⟨RX30, "from", "()I"⟩
theorem dX30_from_0 : decode cX30_from 0 = .ok (.aload_n 0, 1) := by decide +kernel
theorem dX30_from_1 : decode cX30_from 1 = .ok (.getfield 19, 3) := by decide +kernel
theorem dX30_from_4 : decode cX30_from 4 = .ok (.ireturn, 1) := by decide +kernel
abbrev cX30_grew : ByteArray := prog_36_method_7_code
def yX30_grew : MethodName := ⟨RX30, "grew", "(I)V"⟩
def dkwX30_grew_1 : List UInt8 := [180, 0, 9, 27, 182, 0, 40, 177]
abbrev dktX30_grew_1 : List UInt8 := dkwX30_grew_1 ++ []
def dkwX30_grew_0 : List UInt8 := [42, 89, 180, 0, 22, 27, 96, 181, 0, 22, 42, 42, 182, 0, 25, 180, 0, 29, 181, 0, 34, 42]
abbrev dktX30_grew_0 : List UInt8 := dkwX30_grew_0 ++ dktX30_grew_1
theorem dksX30_grew_0 : cX30_grew.data.toList.drop 0 = dktX30_grew_0 := by decide +kernel
theorem dksX30_grew_1 : cX30_grew.data.toList.drop 22 = dktX30_grew_1 := dk_seg dksX30_grew_0 22 rfl rfl
theorem dX30_grew_0 : decode cX30_grew 0 = .ok (.aload_n 0, 1) := dk_42 (dk_at dksX30_grew_0 0 rfl rfl)
theorem dX30_grew_1 : decode cX30_grew 1 = .ok (.dup, 1) := dk_89 (dk_at dksX30_grew_0 1 rfl rfl)
theorem dX30_grew_2 : decode cX30_grew 2 = .ok (.getfield 22, 3) := dk_180 0 22 (dk_at dksX30_grew_0 2 rfl rfl)
theorem dX30_grew_5 : decode cX30_grew 5 = .ok (.iload_n 1, 1) := dk_27 (dk_at dksX30_grew_0 5 rfl rfl)
theorem dX30_grew_6 : decode cX30_grew 6 = .ok (.iadd, 1) := dk_96 (dk_at dksX30_grew_0 6 rfl rfl)
theorem dX30_grew_7 : decode cX30_grew 7 = .ok (.putfield 22, 3) := dk_181 0 22 (dk_at dksX30_grew_0 7 rfl rfl)
theorem dX30_grew_10 : decode cX30_grew 10 = .ok (.aload_n 0, 1) := dk_42 (dk_at dksX30_grew_0 10 rfl rfl)
theorem dX30_grew_11 : decode cX30_grew 11 = .ok (.aload_n 0, 1) := dk_42 (dk_at dksX30_grew_0 11 rfl rfl)
theorem dX30_grew_12 : decode cX30_grew 12 = .ok (.invokevirtual 25, 3) := dk_182 0 25 (dk_at dksX30_grew_0 12 rfl rfl)
theorem dX30_grew_15 : decode cX30_grew 15 = .ok (.getfield 29, 3) := dk_180 0 29 (dk_at dksX30_grew_0 15 rfl rfl)
theorem dX30_grew_18 : decode cX30_grew 18 = .ok (.putfield 34, 3) := dk_181 0 34 (dk_at dksX30_grew_0 18 rfl rfl)
theorem dX30_grew_21 : decode cX30_grew 21 = .ok (.aload_n 0, 1) := dk_42 (dk_at dksX30_grew_0 21 rfl rfl)
theorem dX30_grew_22 : decode cX30_grew 22 = .ok (.getfield 9, 3) := dk_180 0 9 (dk_at dksX30_grew_1 0 rfl rfl)
theorem dX30_grew_25 : decode cX30_grew 25 = .ok (.iload_n 1, 1) := dk_27 (dk_at dksX30_grew_1 3 rfl rfl)
theorem dX30_grew_26 : decode cX30_grew 26 = .ok (.invokevirtual 40, 3) := dk_182 0 40 (dk_at dksX30_grew_1 4 rfl rfl)
theorem dX30_grew_29 : decode cX30_grew 29 = .ok (.return_, 1) := dk_177 (dk_at dksX30_grew_1 7 rfl rfl)
abbrev cX30_begin : ByteArray := prog_36_method_2_code
def yX30_begin : MethodName := ⟨RX30, "begin", "(LLibraryDesk$Places;II)V"⟩
def dkwX30_begin_1 : List UInt8 := [42, 182, 0, 25, 180, 0, 29, 181, 0, 34, 177]
abbrev dktX30_begin_1 : List UInt8 := dkwX30_begin_1 ++ []
def dkwX30_begin_0 : List UInt8 := [42, 43, 181, 0, 9, 42, 42, 180, 0, 9, 182, 0, 15, 28, 96, 181, 0, 19, 42, 29, 181, 0, 22, 42]
abbrev dktX30_begin_0 : List UInt8 := dkwX30_begin_0 ++ dktX30_begin_1
theorem dksX30_begin_0 : cX30_begin.data.toList.drop 0 = dktX30_begin_0 := by decide +kernel
theorem dksX30_begin_1 : cX30_begin.data.toList.drop 24 = dktX30_begin_1 := dk_seg dksX30_begin_0 24 rfl rfl
theorem dX30_begin_0 : decode cX30_begin 0 = .ok (.aload_n 0, 1) := dk_42 (dk_at dksX30_begin_0 0 rfl rfl)
theorem dX30_begin_1 : decode cX30_begin 1 = .ok (.aload_n 1, 1) := dk_43 (dk_at dksX30_begin_0 1 rfl rfl)
theorem dX30_begin_2 : decode cX30_begin 2 = .ok (.putfield 9, 3) := dk_181 0 9 (dk_at dksX30_begin_0 2 rfl rfl)
theorem dX30_begin_5 : decode cX30_begin 5 = .ok (.aload_n 0, 1) := dk_42 (dk_at dksX30_begin_0 5 rfl rfl)
theorem dX30_begin_6 : decode cX30_begin 6 = .ok (.aload_n 0, 1) := dk_42 (dk_at dksX30_begin_0 6 rfl rfl)
theorem dX30_begin_7 : decode cX30_begin 7 = .ok (.getfield 9, 3) := dk_180 0 9 (dk_at dksX30_begin_0 7 rfl rfl)
theorem dX30_begin_10 : decode cX30_begin 10 = .ok (.invokevirtual 15, 3) := dk_182 0 15 (dk_at dksX30_begin_0 10 rfl rfl)
theorem dX30_begin_13 : decode cX30_begin 13 = .ok (.iload_n 2, 1) := dk_28 (dk_at dksX30_begin_0 13 rfl rfl)
theorem dX30_begin_14 : decode cX30_begin 14 = .ok (.iadd, 1) := dk_96 (dk_at dksX30_begin_0 14 rfl rfl)
theorem dX30_begin_15 : decode cX30_begin 15 = .ok (.putfield 19, 3) := dk_181 0 19 (dk_at dksX30_begin_0 15 rfl rfl)
theorem dX30_begin_18 : decode cX30_begin 18 = .ok (.aload_n 0, 1) := dk_42 (dk_at dksX30_begin_0 18 rfl rfl)
theorem dX30_begin_19 : decode cX30_begin 19 = .ok (.iload_n 3, 1) := dk_29 (dk_at dksX30_begin_0 19 rfl rfl)
theorem dX30_begin_20 : decode cX30_begin 20 = .ok (.putfield 22, 3) := dk_181 0 22 (dk_at dksX30_begin_0 20 rfl rfl)
theorem dX30_begin_23 : decode cX30_begin 23 = .ok (.aload_n 0, 1) := dk_42 (dk_at dksX30_begin_0 23 rfl rfl)
theorem dX30_begin_24 : decode cX30_begin 24 = .ok (.aload_n 0, 1) := dk_42 (dk_at dksX30_begin_1 0 rfl rfl)
theorem dX30_begin_25 : decode cX30_begin 25 = .ok (.invokevirtual 25, 3) := dk_182 0 25 (dk_at dksX30_begin_1 1 rfl rfl)
theorem dX30_begin_28 : decode cX30_begin 28 = .ok (.getfield 29, 3) := dk_180 0 29 (dk_at dksX30_begin_1 4 rfl rfl)
theorem dX30_begin_31 : decode cX30_begin 31 = .ok (.putfield 34, 3) := dk_181 0 34 (dk_at dksX30_begin_1 7 rfl rfl)
theorem dX30_begin_34 : decode cX30_begin 34 = .ok (.return_, 1) := dk_177 (dk_at dksX30_begin_1 10 rfl rfl)
theorem q546 : (Jvm.Cond.initialized "LibraryDesk$ViewThing") ∈ lw_all := lw_g (lw_at lw_m1 39 rfl) rfl
theorem q1389 : (Jvm.Cond.fieldLinkNest "LibraryDesk$ViewThing" (29 : Nat) "LibraryDesk$Rows" "changes" "I" "LibraryDesk") ∈ lw_tbl := lw_at lw_m4 162 rfl
theorem q1720 : (Jvm.Cond.instantiable "LibraryDesk$ViewThing" (6 : Nat)) ∈ lw_all := lw_g (lw_at lw_m6 13 rfl) rfl
theorem q1722 : (Jvm.Cond.instanceMethod ({ cls := "LibraryDesk$ViewThing", name := "<init>", desc := "()V" } : Jvm.MethodName)) ∈ lw_all := lw_g (lw_at lw_m6 15 rfl) rfl
theorem q1723 : (Jvm.Cond.code ({ cls := "LibraryDesk$ViewThing", name := "<init>", desc := "()V" } : Jvm.MethodName) prog_36_method_1_code (1 : Nat) (Option.none : Option Jvm.ClassFile.FieldType)) ∈ lw_all := lw_g (lw_at lw_m6 16 rfl) rfl
theorem q1724 : (Jvm.Cond.methodLinkNest "LibraryDesk$ViewThing" (3 : Nat) ({ cls := "LibraryDesk$Places", name := "<init>", desc := "(I)V" } : Jvm.MethodName) "LibraryDesk") ∈ lw_tbl := lw_at lw_m6 17 rfl
theorem q1725 : (Jvm.Cond.fieldLink "LibraryDesk$ViewThing" (9 : Nat) "LibraryDesk$ViewThing" "of" "LLibraryDesk$Places;") ∈ lw_all := lw_g (lw_at lw_m6 18 rfl) rfl
theorem q1726 : (Jvm.Cond.fieldLink "LibraryDesk$ViewThing" (19 : Nat) "LibraryDesk$ViewThing" "from" "I") ∈ lw_all := lw_g (lw_at lw_m6 19 rfl) rfl
theorem q1727 : (Jvm.Cond.fieldLink "LibraryDesk$ViewThing" (22 : Nat) "LibraryDesk$ViewThing" "size" "I") ∈ lw_all := lw_g (lw_at lw_m6 20 rfl) rfl
theorem q1728 : (Jvm.Cond.fieldLink "LibraryDesk$ViewThing" (34 : Nat) "LibraryDesk$ViewThing" "changes" "I") ∈ lw_all := lw_g (lw_at lw_m6 21 rfl) rfl
theorem q1729 : (Jvm.Cond.lays "LibraryDesk$ViewThing" "LibraryDesk$ViewThing" "of" "LLibraryDesk$Places;") ∈ lw_all := lw_g (lw_at lw_m6 22 rfl) rfl
theorem q1730 : (Jvm.Cond.soleField "LibraryDesk$ViewThing" "of") ∈ lw_all := lw_g (lw_at lw_m6 23 rfl) rfl
theorem q1731 : (Jvm.Cond.lays "LibraryDesk$ViewThing" "LibraryDesk$ViewThing" "from" "I") ∈ lw_all := lw_g (lw_at lw_m6 24 rfl) rfl
theorem q1732 : (Jvm.Cond.soleField "LibraryDesk$ViewThing" "from") ∈ lw_all := lw_g (lw_at lw_m6 25 rfl) rfl
theorem q1733 : (Jvm.Cond.lays "LibraryDesk$ViewThing" "LibraryDesk$ViewThing" "size" "I") ∈ lw_all := lw_g (lw_at lw_m6 26 rfl) rfl
theorem q1734 : (Jvm.Cond.soleField "LibraryDesk$ViewThing" "size") ∈ lw_all := lw_g (lw_at lw_m6 27 rfl) rfl
theorem q1735 : (Jvm.Cond.lays "LibraryDesk$ViewThing" "LibraryDesk$ViewThing" "changes" "I") ∈ lw_all := lw_g (lw_at lw_m6 28 rfl) rfl
theorem q1736 : (Jvm.Cond.soleField "LibraryDesk$ViewThing" "changes") ∈ lw_all := lw_g (lw_at lw_m6 29 rfl) rfl
theorem q1737 : (Jvm.Cond.laysFinal "LibraryDesk$ViewThing" "LibraryDesk$Thing" "kind" "I") ∈ lw_all := lw_g (lw_at lw_m6 30 rfl) rfl
theorem q1738 : (Jvm.Cond.lays "LibraryDesk$ViewThing" "LibraryDesk$Thing" "used" "Z") ∈ lw_all := lw_g (lw_at lw_m6 31 rfl) rfl
theorem q1739 : (Jvm.Cond.superclass "LibraryDesk$ViewThing" "LibraryDesk$Places") ∈ lw_all := lw_g (lw_at lw_m6 32 rfl) rfl
theorem q2015 : (Jvm.Cond.selects "LibraryDesk$ViewThing" ({ cls := "LibraryDesk$Places", name := "check", desc := "()V" } : Jvm.MethodName) ({ cls := "LibraryDesk$ViewThing", name := "check", desc := "()V" } : Jvm.MethodName)) ∈ lw_all := lw_g (lw_at lw_m7 68 rfl) rfl
theorem q2016 : (Jvm.Cond.instanceMethod ({ cls := "LibraryDesk$ViewThing", name := "check", desc := "()V" } : Jvm.MethodName)) ∈ lw_all := lw_g (lw_at lw_m7 69 rfl) rfl
theorem q2017 : (Jvm.Cond.code ({ cls := "LibraryDesk$ViewThing", name := "check", desc := "()V" } : Jvm.MethodName) prog_36_method_6_code (1 : Nat) (Option.none : Option Jvm.ClassFile.FieldType)) ∈ lw_all := lw_g (lw_at lw_m7 70 rfl) rfl
theorem q2018 : (Jvm.Cond.methodLink "LibraryDesk$ViewThing" (25 : Nat) ({ cls := "LibraryDesk$ViewThing", name := "rows", desc := "()LLibraryDesk$Rows;" } : Jvm.MethodName)) ∈ lw_all := lw_g (lw_at lw_m7 71 rfl) rfl
theorem q2019 : (Jvm.Cond.instanceMethod ({ cls := "LibraryDesk$ViewThing", name := "rows", desc := "()LLibraryDesk$Rows;" } : Jvm.MethodName)) ∈ lw_all := lw_g (lw_at lw_m7 72 rfl) rfl
theorem q2020 : (Jvm.Cond.selects "LibraryDesk$ViewThing" ({ cls := "LibraryDesk$ViewThing", name := "rows", desc := "()LLibraryDesk$Rows;" } : Jvm.MethodName) ({ cls := "LibraryDesk$ViewThing", name := "rows", desc := "()LLibraryDesk$Rows;" } : Jvm.MethodName)) ∈ lw_all := lw_g (lw_at lw_m7 73 rfl) rfl
theorem q2021 : (Jvm.Cond.code ({ cls := "LibraryDesk$ViewThing", name := "rows", desc := "()LLibraryDesk$Rows;" } : Jvm.MethodName) prog_36_method_3_code (1 : Nat) (Option.some (Jvm.ClassFile.FieldType.object "LibraryDesk$Rows"))) ∈ lw_all := lw_g (lw_at lw_m7 74 rfl) rfl
theorem q2022 : (Jvm.Cond.methodLink "LibraryDesk$ViewThing" (35 : Nat) ({ cls := "LibraryDesk$Places", name := "rows", desc := "()LLibraryDesk$Rows;" } : Jvm.MethodName)) ∈ lw_all := lw_g (lw_at lw_m7 75 rfl) rfl
theorem q2028 : (Jvm.Cond.selects "LibraryDesk$ViewThing" ({ cls := "LibraryDesk$Places", name := "rows", desc := "()LLibraryDesk$Rows;" } : Jvm.MethodName) ({ cls := "LibraryDesk$ViewThing", name := "rows", desc := "()LLibraryDesk$Rows;" } : Jvm.MethodName)) ∈ lw_all := lw_g (lw_at lw_m7 81 rfl) rfl
theorem q2029 : (Jvm.Cond.methodLinkNest "LibraryDesk$ViewThing" (36 : Nat) ({ cls := "LibraryDesk", name := "state", desc := "(Z)V" } : Jvm.MethodName) "LibraryDesk") ∈ lw_tbl := lw_at lw_m7 82 rfl
theorem q2040 : (Jvm.Cond.selects "LibraryDesk$ViewThing" ({ cls := "LibraryDesk$Places", name := "size", desc := "()I" } : Jvm.MethodName) ({ cls := "LibraryDesk$ViewThing", name := "size", desc := "()I" } : Jvm.MethodName)) ∈ lw_all := lw_g (lw_at lw_m7 93 rfl) rfl
theorem q2041 : (Jvm.Cond.instanceMethod ({ cls := "LibraryDesk$ViewThing", name := "size", desc := "()I" } : Jvm.MethodName)) ∈ lw_all := lw_g (lw_at lw_m7 94 rfl) rfl
theorem q2042 : (Jvm.Cond.code ({ cls := "LibraryDesk$ViewThing", name := "size", desc := "()I" } : Jvm.MethodName) prog_36_method_5_code (1 : Nat) (Option.some Jvm.ClassFile.FieldType.int)) ∈ lw_all := lw_g (lw_at lw_m7 95 rfl) rfl
theorem q2047 : (Jvm.Cond.selects "LibraryDesk$ViewThing" ({ cls := "LibraryDesk$Places", name := "insert", desc := "(II)V" } : Jvm.MethodName) ({ cls := "LibraryDesk$Places", name := "insert", desc := "(II)V" } : Jvm.MethodName)) ∈ lw_all := lw_g (lw_at lw_m7 100 rfl) rfl
theorem q2053 : (Jvm.Cond.selects "LibraryDesk$ViewThing" ({ cls := "LibraryDesk$Places", name := "open", desc := "(II)V" } : Jvm.MethodName) ({ cls := "LibraryDesk$Places", name := "open", desc := "(II)V" } : Jvm.MethodName)) ∈ lw_all := lw_g (lw_at lw_m7 106 rfl) rfl
theorem q2062 : (Jvm.Cond.selects "LibraryDesk$ViewThing" ({ cls := "LibraryDesk$Places", name := "from", desc := "()I" } : Jvm.MethodName) ({ cls := "LibraryDesk$ViewThing", name := "from", desc := "()I" } : Jvm.MethodName)) ∈ lw_all := lw_g (lw_at lw_m7 115 rfl) rfl
theorem q2063 : (Jvm.Cond.instanceMethod ({ cls := "LibraryDesk$ViewThing", name := "from", desc := "()I" } : Jvm.MethodName)) ∈ lw_all := lw_g (lw_at lw_m7 116 rfl) rfl
theorem q2064 : (Jvm.Cond.code ({ cls := "LibraryDesk$ViewThing", name := "from", desc := "()I" } : Jvm.MethodName) prog_36_method_4_code (1 : Nat) (Option.some Jvm.ClassFile.FieldType.int)) ∈ lw_all := lw_g (lw_at lw_m7 117 rfl) rfl
theorem q2080 : (Jvm.Cond.selects "LibraryDesk$ViewThing" ({ cls := "LibraryDesk$Places", name := "grew", desc := "(I)V" } : Jvm.MethodName) ({ cls := "LibraryDesk$ViewThing", name := "grew", desc := "(I)V" } : Jvm.MethodName)) ∈ lw_all := lw_g (lw_at lw_m7 133 rfl) rfl
theorem q2081 : (Jvm.Cond.instanceMethod ({ cls := "LibraryDesk$ViewThing", name := "grew", desc := "(I)V" } : Jvm.MethodName)) ∈ lw_all := lw_g (lw_at lw_m7 134 rfl) rfl
theorem q2082 : (Jvm.Cond.code ({ cls := "LibraryDesk$ViewThing", name := "grew", desc := "(I)V" } : Jvm.MethodName) prog_36_method_7_code (2 : Nat) (Option.none : Option Jvm.ClassFile.FieldType)) ∈ lw_all := lw_g (lw_at lw_m7 135 rfl) rfl
theorem q2083 : (Jvm.Cond.methodLink "LibraryDesk$ViewThing" (40 : Nat) ({ cls := "LibraryDesk$Places", name := "grew", desc := "(I)V" } : Jvm.MethodName)) ∈ lw_all := lw_g (lw_at lw_m7 136 rfl) rfl
theorem q2088 : (Jvm.Cond.selects "LibraryDesk$ViewThing" ({ cls := "LibraryDesk$Places", name := "put", desc := "(II)V" } : Jvm.MethodName) ({ cls := "LibraryDesk$Places", name := "put", desc := "(II)V" } : Jvm.MethodName)) ∈ lw_all := lw_g (lw_at lw_m7 141 rfl) rfl
theorem q2101 : (Jvm.Cond.selects "LibraryDesk$ViewThing" ({ cls := "LibraryDesk$Places", name := "get", desc := "(I)I" } : Jvm.MethodName) ({ cls := "LibraryDesk$Places", name := "get", desc := "(I)I" } : Jvm.MethodName)) ∈ lw_all := lw_g (lw_at lw_m7 154 rfl) rfl
theorem q2108 : (Jvm.Cond.selects "LibraryDesk$ViewThing" ({ cls := "LibraryDesk$Places", name := "close", desc := "(II)V" } : Jvm.MethodName) ({ cls := "LibraryDesk$Places", name := "close", desc := "(II)V" } : Jvm.MethodName)) ∈ lw_all := lw_g (lw_at lw_m7 161 rfl) rfl
theorem q2118 : (Jvm.Cond.selects "LibraryDesk$ViewThing" ({ cls := "LibraryDesk$Places", name := "find", desc := "(I)I" } : Jvm.MethodName) ({ cls := "LibraryDesk$Places", name := "find", desc := "(I)I" } : Jvm.MethodName)) ∈ lw_all := lw_g (lw_at lw_m7 171 rfl) rfl
theorem q2126 : (Jvm.Cond.selects "LibraryDesk$ViewThing" ({ cls := "LibraryDesk$Places", name := "findLast", desc := "(I)I" } : Jvm.MethodName) ({ cls := "LibraryDesk$Places", name := "findLast", desc := "(I)I" } : Jvm.MethodName)) ∈ lw_all := lw_g (lw_at lw_m7 179 rfl) rfl
theorem q2168 : (Jvm.Cond.selects "LibraryDesk$ViewThing" ({ cls := "LibraryDesk$Places", name := "kind", desc := "()I" } : Jvm.MethodName) ({ cls := "LibraryDesk$Thing", name := "kind", desc := "()I" } : Jvm.MethodName)) ∈ lw_all := lw_g (lw_at lw_m7 221 rfl) rfl
theorem q2794 : (Jvm.Cond.privateMethod ({ cls := "LibraryDesk$ViewThing", name := "begin", desc := "(LLibraryDesk$Places;II)V" } : Jvm.MethodName)) ∈ lw_tbl := lw_at lw_m10 127 rfl
theorem q2795 : (Jvm.Cond.instanceMethod ({ cls := "LibraryDesk$ViewThing", name := "begin", desc := "(LLibraryDesk$Places;II)V" } : Jvm.MethodName)) ∈ lw_all := lw_g (lw_at lw_m10 128 rfl) rfl
theorem q2796 : (Jvm.Cond.code ({ cls := "LibraryDesk$ViewThing", name := "begin", desc := "(LLibraryDesk$Places;II)V" } : Jvm.MethodName) prog_36_method_2_code (4 : Nat) (Option.none : Option Jvm.ClassFile.FieldType)) ∈ lw_all := lw_g (lw_at lw_m10 129 rfl) rfl
theorem q2797 : (Jvm.Cond.methodLink "LibraryDesk$ViewThing" (15 : Nat) ({ cls := "LibraryDesk$Places", name := "from", desc := "()I" } : Jvm.MethodName)) ∈ lw_all := lw_g (lw_at lw_m10 130 rfl) rfl
theorem q6095 : (Jvm.Cond.selects "LibraryDesk$ViewThing" ({ cls := "LibraryDesk$Thing", name := "kind", desc := "()I" } : Jvm.MethodName) ({ cls := "LibraryDesk$Thing", name := "kind", desc := "()I" } : Jvm.MethodName)) ∈ lw_all := lw_g (lw_at lw_m24 68 rfl) rfl
theorem q6102 : (Jvm.Cond.castable "LibraryDesk$ViewThing" "LibraryDesk$Places") ∈ lw_tbl := lw_at lw_m24 75 rfl
theorem q6138 : (Jvm.Cond.castable "LibraryDesk$ViewThing" "java/lang/Object") ∈ lw_tbl := lw_at lw_m24 111 rfl
theorem q6163 : (Jvm.Cond.castable "LibraryDesk$ViewThing" "LibraryDesk$Thing") ∈ lw_tbl := lw_at lw_m24 136 rfl
theorem in_X30 : ∀ w ∈ wsX300, w ∈ lw_all := lw_in wsX300 [1737, 1738, 1729, 1731, 1733, 1735] (by decide +kernel) (by decide +kernel)

/-! LibraryDesk$WholeThing -/
set_option maxRecDepth 100000
def RX31 : String := "LibraryDesk$WholeThing"
def TX31 : u_T := fun k => match k with
  | 0 => ("LibraryDesk$Thing", "kind", "I", true)
  | 1 => ("LibraryDesk$Thing", "used", "Z", false)
  | _ => ("LibraryDesk$WholeThing", "value", "LLibraryDesk$Big;", true)
def tyX31 : Nat → FieldType := fun k => match k with
  | 0 => .int
  | 1 => .boolean
  | _ => .object "LibraryDesk$Big"
abbrev wsX310 : List Cond := u_ws RX31 TX31 3
theorem nmX31 : ∀ a, a < 3 → ∀ b, b < 3 → a ≠ b → (TX31 a).2.1 ≠ (TX31 b).2.1 := by decide +kernel
theorem tyX31_ok : ∀ k, k < 3 → parseFieldDescriptor (TX31 k).2.2.1 = some (tyX31 k) := by decide +kernel
abbrev cX31_init : ByteArray := prog_37_method_1_code
def yX31_init : MethodName := ⟨RX31, "<init>", "()V"⟩
def dkwX31_init_0 : List UInt8 := [42, 16, 11, 183, 0, 3, 42, 187, 0, 9, 89, 183, 0, 11, 181, 0, 14, 177]
abbrev dktX31_init_0 : List UInt8 := dkwX31_init_0 ++ []
theorem dksX31_init_0 : cX31_init.data.toList.drop 0 = dktX31_init_0 := by decide +kernel
theorem dX31_init_0 : decode cX31_init 0 = .ok (.aload_n 0, 1) := dk_42 (dk_at dksX31_init_0 0 rfl rfl)
theorem dX31_init_1 : decode cX31_init 1 = .ok (.bipush 11, 2) := dk_16 11 (dk_at dksX31_init_0 1 rfl rfl)
theorem dX31_init_3 : decode cX31_init 3 = .ok (.invokespecial 3, 3) := dk_183 0 3 (dk_at dksX31_init_0 3 rfl rfl)
theorem dX31_init_6 : decode cX31_init 6 = .ok (.aload_n 0, 1) := dk_42 (dk_at dksX31_init_0 6 rfl rfl)
theorem dX31_init_7 : decode cX31_init 7 = .ok (.new 9, 3) := dk_187 0 9 (dk_at dksX31_init_0 7 rfl rfl)
theorem dX31_init_10 : decode cX31_init 10 = .ok (.dup, 1) := dk_89 (dk_at dksX31_init_0 10 rfl rfl)
theorem dX31_init_11 : decode cX31_init 11 = .ok (.invokespecial 11, 3) := dk_183 0 11 (dk_at dksX31_init_0 11 rfl rfl)
theorem dX31_init_14 : decode cX31_init 14 = .ok (.putfield 14, 3) := dk_181 0 14 (dk_at dksX31_init_0 14 rfl rfl)
theorem dX31_init_17 : decode cX31_init 17 = .ok (.return_, 1) := dk_177 (dk_at dksX31_init_0 17 rfl rfl)
theorem q547 : (Jvm.Cond.initialized "LibraryDesk$WholeThing") ∈ lw_all := lw_g (lw_at lw_m1 40 rfl) rfl
theorem q1741 : (Jvm.Cond.instantiable "LibraryDesk$WholeThing" (3 : Nat)) ∈ lw_all := lw_g (lw_at lw_m6 34 rfl) rfl
theorem q1743 : (Jvm.Cond.instanceMethod ({ cls := "LibraryDesk$WholeThing", name := "<init>", desc := "()V" } : Jvm.MethodName)) ∈ lw_all := lw_g (lw_at lw_m6 36 rfl) rfl
theorem q1744 : (Jvm.Cond.code ({ cls := "LibraryDesk$WholeThing", name := "<init>", desc := "()V" } : Jvm.MethodName) prog_37_method_1_code (1 : Nat) (Option.none : Option Jvm.ClassFile.FieldType)) ∈ lw_all := lw_g (lw_at lw_m6 37 rfl) rfl
theorem q1745 : (Jvm.Cond.methodLinkNest "LibraryDesk$WholeThing" (3 : Nat) ({ cls := "LibraryDesk$Thing", name := "<init>", desc := "(I)V" } : Jvm.MethodName) "LibraryDesk") ∈ lw_tbl := lw_at lw_m6 38 rfl
theorem q1746 : (Jvm.Cond.classLink "LibraryDesk$WholeThing" (9 : Nat) "LibraryDesk$Big") ∈ lw_all := lw_g (lw_at lw_m6 39 rfl) rfl
theorem q1747 : (Jvm.Cond.methodLinkNest "LibraryDesk$WholeThing" (11 : Nat) ({ cls := "LibraryDesk$Big", name := "<init>", desc := "()V" } : Jvm.MethodName) "LibraryDesk") ∈ lw_tbl := lw_at lw_m6 40 rfl
theorem q1748 : (Jvm.Cond.fieldLink "LibraryDesk$WholeThing" (14 : Nat) "LibraryDesk$WholeThing" "value" "LLibraryDesk$Big;") ∈ lw_all := lw_g (lw_at lw_m6 41 rfl) rfl
theorem q1750 : (Jvm.Cond.laysFinal "LibraryDesk$WholeThing" "LibraryDesk$WholeThing" "value" "LLibraryDesk$Big;") ∈ lw_all := lw_g (lw_at lw_m6 43 rfl) rfl
theorem q1751 : (Jvm.Cond.soleField "LibraryDesk$WholeThing" "value") ∈ lw_all := lw_g (lw_at lw_m6 44 rfl) rfl
theorem q1752 : (Jvm.Cond.laysFinal "LibraryDesk$WholeThing" "LibraryDesk$Thing" "kind" "I") ∈ lw_all := lw_g (lw_at lw_m6 45 rfl) rfl
theorem q1753 : (Jvm.Cond.lays "LibraryDesk$WholeThing" "LibraryDesk$Thing" "used" "Z") ∈ lw_all := lw_g (lw_at lw_m6 46 rfl) rfl
theorem q1754 : (Jvm.Cond.superclass "LibraryDesk$WholeThing" "LibraryDesk$Thing") ∈ lw_all := lw_g (lw_at lw_m6 47 rfl) rfl
theorem q6096 : (Jvm.Cond.selects "LibraryDesk$WholeThing" ({ cls := "LibraryDesk$Thing", name := "kind", desc := "()I" } : Jvm.MethodName) ({ cls := "LibraryDesk$Thing", name := "kind", desc := "()I" } : Jvm.MethodName)) ∈ lw_all := lw_g (lw_at lw_m24 69 rfl) rfl
theorem q6139 : (Jvm.Cond.castable "LibraryDesk$WholeThing" "java/lang/Object") ∈ lw_tbl := lw_at lw_m24 112 rfl
theorem q6164 : (Jvm.Cond.castable "LibraryDesk$WholeThing" "LibraryDesk$Thing") ∈ lw_tbl := lw_at lw_m24 137 rfl
theorem in_X31 : ∀ w ∈ wsX310, w ∈ lw_all := lw_in wsX310 [1752, 1753, 1750] (by decide +kernel) (by decide +kernel)

/-! LibraryDesk$DecimalThing -/
set_option maxRecDepth 100000
def RX32 : String := "LibraryDesk$DecimalThing"
def TX32 : u_T := fun k => match k with
  | 0 => ("LibraryDesk$Thing", "kind", "I", true)
  | 1 => ("LibraryDesk$Thing", "used", "Z", false)
  | 2 => ("LibraryDesk$DecimalThing", "value", "LLibraryDesk$Big;", true)
  | _ => ("LibraryDesk$DecimalThing", "scale", "I", false)
def tyX32 : Nat → FieldType := fun k => match k with
  | 0 => .int
  | 1 => .boolean
  | 2 => .object "LibraryDesk$Big"
  | _ => .int
abbrev wsX320 : List Cond := u_ws RX32 TX32 4
theorem nmX32 : ∀ a, a < 4 → ∀ b, b < 4 → a ≠ b → (TX32 a).2.1 ≠ (TX32 b).2.1 := by decide +kernel
theorem tyX32_ok : ∀ k, k < 4 → parseFieldDescriptor (TX32 k).2.2.1 = some (tyX32 k) := by decide +kernel
abbrev cX32_init : ByteArray := prog_7_method_1_code
def yX32_init : MethodName := ⟨RX32, "<init>", "()V"⟩
def dkwX32_init_0 : List UInt8 := [42, 16, 12, 183, 0, 3, 42, 187, 0, 9, 89, 183, 0, 11, 181, 0, 14, 177]
abbrev dktX32_init_0 : List UInt8 := dkwX32_init_0 ++ []
theorem dksX32_init_0 : cX32_init.data.toList.drop 0 = dktX32_init_0 := by decide +kernel
theorem dX32_init_0 : decode cX32_init 0 = .ok (.aload_n 0, 1) := dk_42 (dk_at dksX32_init_0 0 rfl rfl)
theorem dX32_init_1 : decode cX32_init 1 = .ok (.bipush 12, 2) := dk_16 12 (dk_at dksX32_init_0 1 rfl rfl)
theorem dX32_init_3 : decode cX32_init 3 = .ok (.invokespecial 3, 3) := dk_183 0 3 (dk_at dksX32_init_0 3 rfl rfl)
theorem dX32_init_6 : decode cX32_init 6 = .ok (.aload_n 0, 1) := dk_42 (dk_at dksX32_init_0 6 rfl rfl)
theorem dX32_init_7 : decode cX32_init 7 = .ok (.new 9, 3) := dk_187 0 9 (dk_at dksX32_init_0 7 rfl rfl)
theorem dX32_init_10 : decode cX32_init 10 = .ok (.dup, 1) := dk_89 (dk_at dksX32_init_0 10 rfl rfl)
theorem dX32_init_11 : decode cX32_init 11 = .ok (.invokespecial 11, 3) := dk_183 0 11 (dk_at dksX32_init_0 11 rfl rfl)
theorem dX32_init_14 : decode cX32_init 14 = .ok (.putfield 14, 3) := dk_181 0 14 (dk_at dksX32_init_0 14 rfl rfl)
theorem dX32_init_17 : decode cX32_init 17 = .ok (.return_, 1) := dk_177 (dk_at dksX32_init_0 17 rfl rfl)
theorem q548 : (Jvm.Cond.initialized "LibraryDesk$DecimalThing") ∈ lw_all := lw_g (lw_at lw_m1 41 rfl) rfl
theorem q1756 : (Jvm.Cond.instantiable "LibraryDesk$DecimalThing" (4 : Nat)) ∈ lw_all := lw_g (lw_at lw_m6 49 rfl) rfl
theorem q1758 : (Jvm.Cond.instanceMethod ({ cls := "LibraryDesk$DecimalThing", name := "<init>", desc := "()V" } : Jvm.MethodName)) ∈ lw_all := lw_g (lw_at lw_m6 51 rfl) rfl
theorem q1759 : (Jvm.Cond.code ({ cls := "LibraryDesk$DecimalThing", name := "<init>", desc := "()V" } : Jvm.MethodName) prog_7_method_1_code (1 : Nat) (Option.none : Option Jvm.ClassFile.FieldType)) ∈ lw_all := lw_g (lw_at lw_m6 52 rfl) rfl
theorem q1760 : (Jvm.Cond.methodLinkNest "LibraryDesk$DecimalThing" (3 : Nat) ({ cls := "LibraryDesk$Thing", name := "<init>", desc := "(I)V" } : Jvm.MethodName) "LibraryDesk") ∈ lw_tbl := lw_at lw_m6 53 rfl
theorem q1761 : (Jvm.Cond.classLink "LibraryDesk$DecimalThing" (9 : Nat) "LibraryDesk$Big") ∈ lw_all := lw_g (lw_at lw_m6 54 rfl) rfl
theorem q1762 : (Jvm.Cond.methodLinkNest "LibraryDesk$DecimalThing" (11 : Nat) ({ cls := "LibraryDesk$Big", name := "<init>", desc := "()V" } : Jvm.MethodName) "LibraryDesk") ∈ lw_tbl := lw_at lw_m6 55 rfl
theorem q1763 : (Jvm.Cond.fieldLink "LibraryDesk$DecimalThing" (14 : Nat) "LibraryDesk$DecimalThing" "value" "LLibraryDesk$Big;") ∈ lw_all := lw_g (lw_at lw_m6 56 rfl) rfl
theorem q1770 : (Jvm.Cond.laysFinal "LibraryDesk$DecimalThing" "LibraryDesk$DecimalThing" "value" "LLibraryDesk$Big;") ∈ lw_all := lw_g (lw_at lw_m6 63 rfl) rfl
theorem q1771 : (Jvm.Cond.soleField "LibraryDesk$DecimalThing" "value") ∈ lw_all := lw_g (lw_at lw_m6 64 rfl) rfl
theorem q1772 : (Jvm.Cond.lays "LibraryDesk$DecimalThing" "LibraryDesk$DecimalThing" "scale" "I") ∈ lw_all := lw_g (lw_at lw_m6 65 rfl) rfl
theorem q1773 : (Jvm.Cond.soleField "LibraryDesk$DecimalThing" "scale") ∈ lw_all := lw_g (lw_at lw_m6 66 rfl) rfl
theorem q1774 : (Jvm.Cond.laysFinal "LibraryDesk$DecimalThing" "LibraryDesk$Thing" "kind" "I") ∈ lw_all := lw_g (lw_at lw_m6 67 rfl) rfl
theorem q1775 : (Jvm.Cond.lays "LibraryDesk$DecimalThing" "LibraryDesk$Thing" "used" "Z") ∈ lw_all := lw_g (lw_at lw_m6 68 rfl) rfl
theorem q1776 : (Jvm.Cond.superclass "LibraryDesk$DecimalThing" "LibraryDesk$Thing") ∈ lw_all := lw_g (lw_at lw_m6 69 rfl) rfl
theorem q6084 : (Jvm.Cond.selects "LibraryDesk$DecimalThing" ({ cls := "LibraryDesk$Thing", name := "kind", desc := "()I" } : Jvm.MethodName) ({ cls := "LibraryDesk$Thing", name := "kind", desc := "()I" } : Jvm.MethodName)) ∈ lw_all := lw_g (lw_at lw_m24 57 rfl) rfl
theorem q6140 : (Jvm.Cond.castable "LibraryDesk$DecimalThing" "java/lang/Object") ∈ lw_tbl := lw_at lw_m24 113 rfl
theorem q6165 : (Jvm.Cond.castable "LibraryDesk$DecimalThing" "LibraryDesk$Thing") ∈ lw_tbl := lw_at lw_m24 138 rfl
theorem in_X32 : ∀ w ∈ wsX320, w ∈ lw_all := lw_in wsX320 [1774, 1775, 1770, 1772] (by decide +kernel) (by decide +kernel)

/-! LibraryDesk$SubThing -/
set_option maxRecDepth 100000
def RX33 : String := "LibraryDesk$SubThing"
def TX33 : u_T := fun k => match k with
  | 0 => ("LibraryDesk$Thing", "kind", "I", true)
  | 1 => ("LibraryDesk$Thing", "used", "Z", false)
  | 2 => ("LibraryDesk$SubThing", "tree", "LLibraryDesk$TreeThing;", false)
  | 3 => ("LibraryDesk$SubThing", "of", "LLibraryDesk$Maps;", false)
  | 4 => ("LibraryDesk$SubThing", "turned", "Z", false)
  | 5 => ("LibraryDesk$SubThing", "hasLow", "Z", false)
  | 6 => ("LibraryDesk$SubThing", "low", "I", false)
  | 7 => ("LibraryDesk$SubThing", "lowOut", "Z", false)
  | 8 => ("LibraryDesk$SubThing", "hasHigh", "Z", false)
  | 9 => ("LibraryDesk$SubThing", "high", "I", false)
  | _ => ("LibraryDesk$SubThing", "highOut", "Z", false)
def tyX33 : Nat → FieldType := fun k => match k with
  | 0 => .int
  | 1 => .boolean
  | 2 => .object "LibraryDesk$TreeThing"
  | 3 => .object "LibraryDesk$Maps"
  | 4 => .boolean
  | 5 => .boolean
  | 6 => .int
  | 7 => .boolean
  | 8 => .boolean
  | 9 => .int
  | _ => .boolean
abbrev wsX330 : List Cond := u_ws RX33 TX33 11
theorem nmX33 : ∀ a, a < 11 → ∀ b, b < 11 → a ≠ b → (TX33 a).2.1 ≠ (TX33 b).2.1 := by decide +kernel
theorem tyX33_ok : ∀ k, k < 11 → parseFieldDescriptor (TX33 k).2.2.1 = some (tyX33 k) := by decide +kernel
abbrev cX33_init : ByteArray := prog_30_method_1_code
def yX33_init : MethodName := ⟨RX33, "<init>", "()V"⟩
def dkwX33_init_0 : List UInt8 := [42, 16, 20, 183, 0, 3, 177]
abbrev dktX33_init_0 : List UInt8 := dkwX33_init_0 ++ []
theorem dksX33_init_0 : cX33_init.data.toList.drop 0 = dktX33_init_0 := by decide +kernel
theorem dX33_init_0 : decode cX33_init 0 = .ok (.aload_n 0, 1) := dk_42 (dk_at dksX33_init_0 0 rfl rfl)
theorem dX33_init_1 : decode cX33_init 1 = .ok (.bipush 20, 2) := dk_16 20 (dk_at dksX33_init_0 1 rfl rfl)
theorem dX33_init_3 : decode cX33_init 3 = .ok (.invokespecial 3, 3) := dk_183 0 3 (dk_at dksX33_init_0 3 rfl rfl)
theorem dX33_init_6 : decode cX33_init 6 = .ok (.return_, 1) := dk_177 (dk_at dksX33_init_0 6 rfl rfl)
abbrev cX33_find : ByteArray := prog_30_method_13_code
def yX33_find : MethodName := ⟨RX33, "find", "(I)I"⟩
def dkwX33_find_0 : List UInt8 := [42, 42, 180, 0, 21, 27, 182, 0, 87, 182, 0, 74, 172]
abbrev dktX33_find_0 : List UInt8 := dkwX33_find_0 ++ []
theorem dksX33_find_0 : cX33_find.data.toList.drop 0 = dktX33_find_0 := by decide +kernel
theorem dX33_find_0 : decode cX33_find 0 = .ok (.aload_n 0, 1) := dk_42 (dk_at dksX33_find_0 0 rfl rfl)
theorem dX33_find_1 : decode cX33_find 1 = .ok (.aload_n 0, 1) := dk_42 (dk_at dksX33_find_0 1 rfl rfl)
theorem dX33_find_2 : decode cX33_find 2 = .ok (.getfield 21, 3) := dk_180 0 21 (dk_at dksX33_find_0 2 rfl rfl)
theorem dX33_find_5 : decode cX33_find 5 = .ok (.iload_n 1, 1) := dk_27 (dk_at dksX33_find_0 5 rfl rfl)
theorem dX33_find_6 : decode cX33_find 6 = .ok (.invokevirtual 87, 3) := dk_182 0 87 (dk_at dksX33_find_0 6 rfl rfl)
theorem dX33_find_9 : decode cX33_find 9 = .ok (.invokevirtual 74, 3) := dk_182 0 74 (dk_at dksX33_find_0 9 rfl rfl)
theorem dX33_find_12 : decode cX33_find 12 = .ok (.ireturn, 1) := dk_172 (dk_at dksX33_find_0 12 rfl rfl)
abbrev cX33_if0 : ByteArray := prog_30_method_9_code
def yX33_if0 : MethodName := ⟨RX33, "if0", "(I)I"⟩
def dkwX33_if0_1 : List UInt8 := [172]
abbrev dktX33_if0_1 : List UInt8 := dkwX33_if0_1 ++ []
def dkwX33_if0_0 : List UInt8 := [27, 155, 0, 22, 42, 42, 180, 0, 21, 27, 182, 0, 59, 182, 0, 63, 153, 0, 7, 27, 167, 0, 4, 2]
abbrev dktX33_if0_0 : List UInt8 := dkwX33_if0_0 ++ dktX33_if0_1
theorem dksX33_if0_0 : cX33_if0.data.toList.drop 0 = dktX33_if0_0 := by decide +kernel
theorem dksX33_if0_1 : cX33_if0.data.toList.drop 24 = dktX33_if0_1 := dk_seg dksX33_if0_0 24 rfl rfl
theorem dX33_if0_0 : decode cX33_if0 0 = .ok (.iload_n 1, 1) := dk_27 (dk_at dksX33_if0_0 0 rfl rfl)
theorem dX33_if0_1 : decode cX33_if0 1 = .ok (.ifCond .lt 22, 3) := dk_155 0 22 (dk_at dksX33_if0_0 1 rfl rfl)
theorem dX33_if0_4 : decode cX33_if0 4 = .ok (.aload_n 0, 1) := dk_42 (dk_at dksX33_if0_0 4 rfl rfl)
theorem dX33_if0_5 : decode cX33_if0 5 = .ok (.aload_n 0, 1) := dk_42 (dk_at dksX33_if0_0 5 rfl rfl)
theorem dX33_if0_6 : decode cX33_if0 6 = .ok (.getfield 21, 3) := dk_180 0 21 (dk_at dksX33_if0_0 6 rfl rfl)
theorem dX33_if0_9 : decode cX33_if0 9 = .ok (.iload_n 1, 1) := dk_27 (dk_at dksX33_if0_0 9 rfl rfl)
theorem dX33_if0_10 : decode cX33_if0 10 = .ok (.invokevirtual 59, 3) := dk_182 0 59 (dk_at dksX33_if0_0 10 rfl rfl)
theorem dX33_if0_13 : decode cX33_if0 13 = .ok (.invokevirtual 63, 3) := dk_182 0 63 (dk_at dksX33_if0_0 13 rfl rfl)
theorem dX33_if0_16 : decode cX33_if0 16 = .ok (.ifCond .eq 7, 3) := dk_153 0 7 (dk_at dksX33_if0_0 16 rfl rfl)
theorem dX33_if0_19 : decode cX33_if0 19 = .ok (.iload_n 1, 1) := dk_27 (dk_at dksX33_if0_0 19 rfl rfl)
theorem dX33_if0_20 : decode cX33_if0 20 = .ok (.goto 4, 3) := dk_167 0 4 (dk_at dksX33_if0_0 20 rfl rfl)
theorem dX33_if0_23 : decode cX33_if0 23 = .ok (.iconst (-1), 1) := dk_2 (dk_at dksX33_if0_0 23 rfl rfl)
theorem dX33_if0_24 : decode cX33_if0 24 = .ok (.ireturn, 1) := dk_172 (dk_at dksX33_if0_1 0 rfl rfl)
abbrev cX33_holds : ByteArray := prog_30_method_8_code
def yX33_holds : MethodName := ⟨RX33, "holds", "(I)Z"⟩
def dkwX33_holds_3 : List UInt8 := [180, 0, 45, 154, 0, 7, 4, 167, 0, 4, 3, 172]
abbrev dktX33_holds_3 : List UInt8 := dkwX33_holds_3 ++ []
def dkwX33_holds_2 : List UInt8 := [28, 157, 0, 14, 28, 154, 0, 29, 42, 180, 0, 39, 154, 0, 22, 29, 155, 0, 14, 29, 154, 0, 14, 42]
abbrev dktX33_holds_2 : List UInt8 := dkwX33_holds_2 ++ dktX33_holds_3
def dkwX33_holds_1 : List UInt8 := [42, 180, 0, 32, 153, 0, 18, 42, 180, 0, 21, 27, 42, 180, 0, 42, 182, 0, 48, 167, 0, 4, 2, 62]
abbrev dktX33_holds_1 : List UInt8 := dkwX33_holds_1 ++ dktX33_holds_2
def dkwX33_holds_0 : List UInt8 := [42, 180, 0, 29, 153, 0, 18, 42, 180, 0, 21, 27, 42, 180, 0, 35, 182, 0, 48, 167, 0, 4, 4, 61]
abbrev dktX33_holds_0 : List UInt8 := dkwX33_holds_0 ++ dktX33_holds_1
theorem dksX33_holds_0 : cX33_holds.data.toList.drop 0 = dktX33_holds_0 := by decide +kernel
theorem dksX33_holds_1 : cX33_holds.data.toList.drop 24 = dktX33_holds_1 := dk_seg dksX33_holds_0 24 rfl rfl
theorem dksX33_holds_2 : cX33_holds.data.toList.drop 48 = dktX33_holds_2 := dk_seg dksX33_holds_1 24 rfl rfl
theorem dksX33_holds_3 : cX33_holds.data.toList.drop 72 = dktX33_holds_3 := dk_seg dksX33_holds_2 24 rfl rfl
theorem dX33_holds_0 : decode cX33_holds 0 = .ok (.aload_n 0, 1) := dk_42 (dk_at dksX33_holds_0 0 rfl rfl)
theorem dX33_holds_1 : decode cX33_holds 1 = .ok (.getfield 29, 3) := dk_180 0 29 (dk_at dksX33_holds_0 1 rfl rfl)
theorem dX33_holds_4 : decode cX33_holds 4 = .ok (.ifCond .eq 18, 3) := dk_153 0 18 (dk_at dksX33_holds_0 4 rfl rfl)
theorem dX33_holds_7 : decode cX33_holds 7 = .ok (.aload_n 0, 1) := dk_42 (dk_at dksX33_holds_0 7 rfl rfl)
theorem dX33_holds_8 : decode cX33_holds 8 = .ok (.getfield 21, 3) := dk_180 0 21 (dk_at dksX33_holds_0 8 rfl rfl)
theorem dX33_holds_11 : decode cX33_holds 11 = .ok (.iload_n 1, 1) := dk_27 (dk_at dksX33_holds_0 11 rfl rfl)
theorem dX33_holds_12 : decode cX33_holds 12 = .ok (.aload_n 0, 1) := dk_42 (dk_at dksX33_holds_0 12 rfl rfl)
theorem dX33_holds_13 : decode cX33_holds 13 = .ok (.getfield 35, 3) := dk_180 0 35 (dk_at dksX33_holds_0 13 rfl rfl)
theorem dX33_holds_16 : decode cX33_holds 16 = .ok (.invokevirtual 48, 3) := dk_182 0 48 (dk_at dksX33_holds_0 16 rfl rfl)
theorem dX33_holds_19 : decode cX33_holds 19 = .ok (.goto 4, 3) := dk_167 0 4 (dk_at dksX33_holds_0 19 rfl rfl)
theorem dX33_holds_22 : decode cX33_holds 22 = .ok (.iconst 1, 1) := dk_4 (dk_at dksX33_holds_0 22 rfl rfl)
theorem dX33_holds_23 : decode cX33_holds 23 = .ok (.istore_n 2, 1) := dk_61 (dk_at dksX33_holds_0 23 rfl rfl)
theorem dX33_holds_24 : decode cX33_holds 24 = .ok (.aload_n 0, 1) := dk_42 (dk_at dksX33_holds_1 0 rfl rfl)
theorem dX33_holds_25 : decode cX33_holds 25 = .ok (.getfield 32, 3) := dk_180 0 32 (dk_at dksX33_holds_1 1 rfl rfl)
theorem dX33_holds_28 : decode cX33_holds 28 = .ok (.ifCond .eq 18, 3) := dk_153 0 18 (dk_at dksX33_holds_1 4 rfl rfl)
theorem dX33_holds_31 : decode cX33_holds 31 = .ok (.aload_n 0, 1) := dk_42 (dk_at dksX33_holds_1 7 rfl rfl)
theorem dX33_holds_32 : decode cX33_holds 32 = .ok (.getfield 21, 3) := dk_180 0 21 (dk_at dksX33_holds_1 8 rfl rfl)
theorem dX33_holds_35 : decode cX33_holds 35 = .ok (.iload_n 1, 1) := dk_27 (dk_at dksX33_holds_1 11 rfl rfl)
theorem dX33_holds_36 : decode cX33_holds 36 = .ok (.aload_n 0, 1) := dk_42 (dk_at dksX33_holds_1 12 rfl rfl)
theorem dX33_holds_37 : decode cX33_holds 37 = .ok (.getfield 42, 3) := dk_180 0 42 (dk_at dksX33_holds_1 13 rfl rfl)
theorem dX33_holds_40 : decode cX33_holds 40 = .ok (.invokevirtual 48, 3) := dk_182 0 48 (dk_at dksX33_holds_1 16 rfl rfl)
theorem dX33_holds_43 : decode cX33_holds 43 = .ok (.goto 4, 3) := dk_167 0 4 (dk_at dksX33_holds_1 19 rfl rfl)
theorem dX33_holds_46 : decode cX33_holds 46 = .ok (.iconst (-1), 1) := dk_2 (dk_at dksX33_holds_1 22 rfl rfl)
theorem dX33_holds_47 : decode cX33_holds 47 = .ok (.istore_n 3, 1) := dk_62 (dk_at dksX33_holds_1 23 rfl rfl)
theorem dX33_holds_48 : decode cX33_holds 48 = .ok (.iload_n 2, 1) := dk_28 (dk_at dksX33_holds_2 0 rfl rfl)
theorem dX33_holds_49 : decode cX33_holds 49 = .ok (.ifCond .gt 14, 3) := dk_157 0 14 (dk_at dksX33_holds_2 1 rfl rfl)
theorem dX33_holds_52 : decode cX33_holds 52 = .ok (.iload_n 2, 1) := dk_28 (dk_at dksX33_holds_2 4 rfl rfl)
theorem dX33_holds_53 : decode cX33_holds 53 = .ok (.ifCond .ne 29, 3) := dk_154 0 29 (dk_at dksX33_holds_2 5 rfl rfl)
theorem dX33_holds_56 : decode cX33_holds 56 = .ok (.aload_n 0, 1) := dk_42 (dk_at dksX33_holds_2 8 rfl rfl)
theorem dX33_holds_57 : decode cX33_holds 57 = .ok (.getfield 39, 3) := dk_180 0 39 (dk_at dksX33_holds_2 9 rfl rfl)
theorem dX33_holds_60 : decode cX33_holds 60 = .ok (.ifCond .ne 22, 3) := dk_154 0 22 (dk_at dksX33_holds_2 12 rfl rfl)
theorem dX33_holds_63 : decode cX33_holds 63 = .ok (.iload_n 3, 1) := dk_29 (dk_at dksX33_holds_2 15 rfl rfl)
theorem dX33_holds_64 : decode cX33_holds 64 = .ok (.ifCond .lt 14, 3) := dk_155 0 14 (dk_at dksX33_holds_2 16 rfl rfl)
theorem dX33_holds_67 : decode cX33_holds 67 = .ok (.iload_n 3, 1) := dk_29 (dk_at dksX33_holds_2 19 rfl rfl)
theorem dX33_holds_68 : decode cX33_holds 68 = .ok (.ifCond .ne 14, 3) := dk_154 0 14 (dk_at dksX33_holds_2 20 rfl rfl)
theorem dX33_holds_71 : decode cX33_holds 71 = .ok (.aload_n 0, 1) := dk_42 (dk_at dksX33_holds_2 23 rfl rfl)
theorem dX33_holds_72 : decode cX33_holds 72 = .ok (.getfield 45, 3) := dk_180 0 45 (dk_at dksX33_holds_3 0 rfl rfl)
theorem dX33_holds_75 : decode cX33_holds 75 = .ok (.ifCond .ne 7, 3) := dk_154 0 7 (dk_at dksX33_holds_3 3 rfl rfl)
theorem dX33_holds_78 : decode cX33_holds 78 = .ok (.iconst 1, 1) := dk_4 (dk_at dksX33_holds_3 6 rfl rfl)
theorem dX33_holds_79 : decode cX33_holds 79 = .ok (.goto 4, 3) := dk_167 0 4 (dk_at dksX33_holds_3 7 rfl rfl)
theorem dX33_holds_82 : decode cX33_holds 82 = .ok (.iconst 0, 1) := dk_3 (dk_at dksX33_holds_3 10 rfl rfl)
theorem dX33_holds_83 : decode cX33_holds 83 = .ok (.ireturn, 1) := dk_172 (dk_at dksX33_holds_3 11 rfl rfl)
abbrev cX33_value : ByteArray := prog_30_method_18_code
def yX33_value : MethodName := ⟨RX33, "value", "(I)I"⟩
def dkwX33_value_0 : List UInt8 := [42, 180, 0, 21, 27, 182, 0, 100, 172]
abbrev dktX33_value_0 : List UInt8 := dkwX33_value_0 ++ []
theorem dksX33_value_0 : cX33_value.data.toList.drop 0 = dktX33_value_0 := by decide +kernel
theorem dX33_value_0 : decode cX33_value 0 = .ok (.aload_n 0, 1) := dk_42 (dk_at dksX33_value_0 0 rfl rfl)
theorem dX33_value_1 : decode cX33_value 1 = .ok (.getfield 21, 3) := dk_180 0 21 (dk_at dksX33_value_0 1 rfl rfl)
theorem dX33_value_4 : decode cX33_value 4 = .ok (.iload_n 1, 1) := dk_27 (dk_at dksX33_value_0 4 rfl rfl)
theorem dX33_value_5 : decode cX33_value 5 = .ok (.invokevirtual 100, 3) := dk_182 0 100 (dk_at dksX33_value_0 5 rfl rfl)
theorem dX33_value_8 : decode cX33_value 8 = .ok (.ireturn, 1) := dk_172 (dk_at dksX33_value_0 8 rfl rfl)
abbrev cX33_setValue : ByteArray := prog_30_method_19_code
def yX33_setValue : MethodName := ⟨RX33, "setValue", "(II)V"⟩
def dkwX33_setValue_0 : List UInt8 := [42, 180, 0, 21, 27, 28, 182, 0, 103, 177]
abbrev dktX33_setValue_0 : List UInt8 := dkwX33_setValue_0 ++ []
theorem dksX33_setValue_0 : cX33_setValue.data.toList.drop 0 = dktX33_setValue_0 := by decide +kernel
theorem dX33_setValue_0 : decode cX33_setValue 0 = .ok (.aload_n 0, 1) := dk_42 (dk_at dksX33_setValue_0 0 rfl rfl)
theorem dX33_setValue_1 : decode cX33_setValue 1 = .ok (.getfield 21, 3) := dk_180 0 21 (dk_at dksX33_setValue_0 1 rfl rfl)
theorem dX33_setValue_4 : decode cX33_setValue 4 = .ok (.iload_n 1, 1) := dk_27 (dk_at dksX33_setValue_0 4 rfl rfl)
theorem dX33_setValue_5 : decode cX33_setValue 5 = .ok (.iload_n 2, 1) := dk_28 (dk_at dksX33_setValue_0 5 rfl rfl)
theorem dX33_setValue_6 : decode cX33_setValue 6 = .ok (.invokevirtual 103, 3) := dk_182 0 103 (dk_at dksX33_setValue_0 6 rfl rfl)
theorem dX33_setValue_9 : decode cX33_setValue 9 = .ok (.return_, 1) := dk_177 (dk_at dksX33_setValue_0 9 rfl rfl)
abbrev cX33_checkRoom : ByteArray := prog_30_method_20_code
def yX33_checkRoom : MethodName := ⟨RX33, "checkRoom", "(I)V"⟩
def dkwX33_checkRoom_0 : List UInt8 := [42, 27, 182, 0, 63, 184, 0, 107, 42, 180, 0, 21, 27, 182, 0, 111, 177]
abbrev dktX33_checkRoom_0 : List UInt8 := dkwX33_checkRoom_0 ++ []
theorem dksX33_checkRoom_0 : cX33_checkRoom.data.toList.drop 0 = dktX33_checkRoom_0 := by decide +kernel
theorem dX33_checkRoom_0 : decode cX33_checkRoom 0 = .ok (.aload_n 0, 1) := dk_42 (dk_at dksX33_checkRoom_0 0 rfl rfl)
theorem dX33_checkRoom_1 : decode cX33_checkRoom 1 = .ok (.iload_n 1, 1) := dk_27 (dk_at dksX33_checkRoom_0 1 rfl rfl)
theorem dX33_checkRoom_2 : decode cX33_checkRoom 2 = .ok (.invokevirtual 63, 3) := dk_182 0 63 (dk_at dksX33_checkRoom_0 2 rfl rfl)
theorem dX33_checkRoom_5 : decode cX33_checkRoom 5 = .ok (.invokestatic 107, 3) := dk_184 0 107 (dk_at dksX33_checkRoom_0 5 rfl rfl)
theorem dX33_checkRoom_8 : decode cX33_checkRoom 8 = .ok (.aload_n 0, 1) := dk_42 (dk_at dksX33_checkRoom_0 8 rfl rfl)
theorem dX33_checkRoom_9 : decode cX33_checkRoom 9 = .ok (.getfield 21, 3) := dk_180 0 21 (dk_at dksX33_checkRoom_0 9 rfl rfl)
theorem dX33_checkRoom_12 : decode cX33_checkRoom 12 = .ok (.iload_n 1, 1) := dk_27 (dk_at dksX33_checkRoom_0 12 rfl rfl)
theorem dX33_checkRoom_13 : decode cX33_checkRoom 13 = .ok (.invokevirtual 111, 3) := dk_182 0 111 (dk_at dksX33_checkRoom_0 13 rfl rfl)
theorem dX33_checkRoom_16 : decode cX33_checkRoom 16 = .ok (.return_, 1) := dk_177 (dk_at dksX33_checkRoom_0 16 rfl rfl)
abbrev cX33_add : ByteArray := prog_30_method_21_code
def yX33_add : MethodName := ⟨RX33, "add", "(II)V"⟩
def dkwX33_add_0 : List UInt8 := [42, 180, 0, 21, 27, 28, 182, 0, 114, 177]
abbrev dktX33_add_0 : List UInt8 := dkwX33_add_0 ++ []
theorem dksX33_add_0 : cX33_add.data.toList.drop 0 = dktX33_add_0 := by decide +kernel
theorem dX33_add_0 : decode cX33_add 0 = .ok (.aload_n 0, 1) := dk_42 (dk_at dksX33_add_0 0 rfl rfl)
theorem dX33_add_1 : decode cX33_add 1 = .ok (.getfield 21, 3) := dk_180 0 21 (dk_at dksX33_add_0 1 rfl rfl)
theorem dX33_add_4 : decode cX33_add 4 = .ok (.iload_n 1, 1) := dk_27 (dk_at dksX33_add_0 4 rfl rfl)
theorem dX33_add_5 : decode cX33_add 5 = .ok (.iload_n 2, 1) := dk_28 (dk_at dksX33_add_0 5 rfl rfl)
theorem dX33_add_6 : decode cX33_add 6 = .ok (.invokevirtual 114, 3) := dk_182 0 114 (dk_at dksX33_add_0 6 rfl rfl)
theorem dX33_add_9 : decode cX33_add 9 = .ok (.return_, 1) := dk_177 (dk_at dksX33_add_0 9 rfl rfl)
abbrev cX33_remove : ByteArray := prog_30_method_22_code
def yX33_remove : MethodName := ⟨RX33, "remove", "(I)V"⟩
def dkwX33_remove_0 : List UInt8 := [42, 180, 0, 21, 27, 182, 0, 117, 177]
abbrev dktX33_remove_0 : List UInt8 := dkwX33_remove_0 ++ []
theorem dksX33_remove_0 : cX33_remove.data.toList.drop 0 = dktX33_remove_0 := by decide +kernel
theorem dX33_remove_0 : decode cX33_remove 0 = .ok (.aload_n 0, 1) := dk_42 (dk_at dksX33_remove_0 0 rfl rfl)
theorem dX33_remove_1 : decode cX33_remove 1 = .ok (.getfield 21, 3) := dk_180 0 21 (dk_at dksX33_remove_0 1 rfl rfl)
theorem dX33_remove_4 : decode cX33_remove 4 = .ok (.iload_n 1, 1) := dk_27 (dk_at dksX33_remove_0 4 rfl rfl)
theorem dX33_remove_5 : decode cX33_remove 5 = .ok (.invokevirtual 117, 3) := dk_182 0 117 (dk_at dksX33_remove_0 5 rfl rfl)
theorem dX33_remove_8 : decode cX33_remove 8 = .ok (.return_, 1) := dk_177 (dk_at dksX33_remove_0 8 rfl rfl)
abbrev cX33_size : ByteArray := prog_30_method_12_code
def yX33_size : MethodName := ⟨RX33, "size", "()I"⟩
def dkwX33_size_1 : List UInt8 := [172]
abbrev dktX33_size_1 : List UInt8 := dkwX33_size_1 ++ []
def dkwX33_size_0 : List UInt8 := [3, 60, 42, 182, 0, 83, 61, 28, 155, 0, 15, 132, 1, 1, 42, 28, 182, 0, 84, 61, 167, 255, 243, 27]
abbrev dktX33_size_0 : List UInt8 := dkwX33_size_0 ++ dktX33_size_1
theorem dksX33_size_0 : cX33_size.data.toList.drop 0 = dktX33_size_0 := by decide +kernel
theorem dksX33_size_1 : cX33_size.data.toList.drop 24 = dktX33_size_1 := dk_seg dksX33_size_0 24 rfl rfl
theorem dX33_size_0 : decode cX33_size 0 = .ok (.iconst 0, 1) := dk_3 (dk_at dksX33_size_0 0 rfl rfl)
theorem dX33_size_1 : decode cX33_size 1 = .ok (.istore_n 1, 1) := dk_60 (dk_at dksX33_size_0 1 rfl rfl)
theorem dX33_size_2 : decode cX33_size 2 = .ok (.aload_n 0, 1) := dk_42 (dk_at dksX33_size_0 2 rfl rfl)
theorem dX33_size_3 : decode cX33_size 3 = .ok (.invokevirtual 83, 3) := dk_182 0 83 (dk_at dksX33_size_0 3 rfl rfl)
theorem dX33_size_6 : decode cX33_size 6 = .ok (.istore_n 2, 1) := dk_61 (dk_at dksX33_size_0 6 rfl rfl)
theorem dX33_size_7 : decode cX33_size 7 = .ok (.iload_n 2, 1) := dk_28 (dk_at dksX33_size_0 7 rfl rfl)
theorem dX33_size_8 : decode cX33_size 8 = .ok (.ifCond .lt 15, 3) := dk_155 0 15 (dk_at dksX33_size_0 8 rfl rfl)
theorem dX33_size_11 : decode cX33_size 11 = .ok (.iinc 1 1, 3) := dk_132 1 1 (dk_at dksX33_size_0 11 rfl rfl)
theorem dX33_size_14 : decode cX33_size 14 = .ok (.aload_n 0, 1) := dk_42 (dk_at dksX33_size_0 14 rfl rfl)
theorem dX33_size_15 : decode cX33_size 15 = .ok (.iload_n 2, 1) := dk_28 (dk_at dksX33_size_0 15 rfl rfl)
theorem dX33_size_16 : decode cX33_size 16 = .ok (.invokevirtual 84, 3) := dk_182 0 84 (dk_at dksX33_size_0 16 rfl rfl)
theorem dX33_size_19 : decode cX33_size 19 = .ok (.istore_n 2, 1) := dk_61 (dk_at dksX33_size_0 19 rfl rfl)
theorem dX33_size_20 : decode cX33_size 20 = .ok (.goto (-13), 3) := dk_167 255 243 (dk_at dksX33_size_0 20 rfl rfl)
theorem dX33_size_23 : decode cX33_size 23 = .ok (.iload_n 1, 1) := dk_27 (dk_at dksX33_size_0 23 rfl rfl)
theorem dX33_size_24 : decode cX33_size 24 = .ok (.ireturn, 1) := dk_172 (dk_at dksX33_size_1 0 rfl rfl)
abbrev cX33_first : ByteArray := prog_30_method_14_code
def yX33_first : MethodName := ⟨RX33, "first", "()I"⟩
def dkwX33_first_0 : List UInt8 := [42, 180, 0, 25, 153, 0, 10, 42, 182, 0, 90, 167, 0, 7, 42, 182, 0, 93, 172]
abbrev dktX33_first_0 : List UInt8 := dkwX33_first_0 ++ []
theorem dksX33_first_0 : cX33_first.data.toList.drop 0 = dktX33_first_0 := by decide +kernel
theorem dX33_first_0 : decode cX33_first 0 = .ok (.aload_n 0, 1) := dk_42 (dk_at dksX33_first_0 0 rfl rfl)
theorem dX33_first_1 : decode cX33_first 1 = .ok (.getfield 25, 3) := dk_180 0 25 (dk_at dksX33_first_0 1 rfl rfl)
theorem dX33_first_4 : decode cX33_first 4 = .ok (.ifCond .eq 10, 3) := dk_153 0 10 (dk_at dksX33_first_0 4 rfl rfl)
theorem dX33_first_7 : decode cX33_first 7 = .ok (.aload_n 0, 1) := dk_42 (dk_at dksX33_first_0 7 rfl rfl)
theorem dX33_first_8 : decode cX33_first 8 = .ok (.invokevirtual 90, 3) := dk_182 0 90 (dk_at dksX33_first_0 8 rfl rfl)
theorem dX33_first_11 : decode cX33_first 11 = .ok (.goto 7, 3) := dk_167 0 7 (dk_at dksX33_first_0 11 rfl rfl)
theorem dX33_first_14 : decode cX33_first 14 = .ok (.aload_n 0, 1) := dk_42 (dk_at dksX33_first_0 14 rfl rfl)
theorem dX33_first_15 : decode cX33_first 15 = .ok (.invokevirtual 93, 3) := dk_182 0 93 (dk_at dksX33_first_0 15 rfl rfl)
theorem dX33_first_18 : decode cX33_first 18 = .ok (.ireturn, 1) := dk_172 (dk_at dksX33_first_0 18 rfl rfl)
abbrev cX33_highest : ByteArray := prog_30_method_11_code
def yX33_highest : MethodName := ⟨RX33, "highest", "()I"⟩
def dkwX33_highest_1 : List UInt8 := [167, 0, 10, 42, 180, 0, 21, 182, 0, 80, 182, 0, 74, 172]
abbrev dktX33_highest_1 : List UInt8 := dkwX33_highest_1 ++ []
def dkwX33_highest_0 : List UInt8 := [42, 42, 180, 0, 32, 153, 0, 21, 42, 180, 0, 21, 42, 180, 0, 42, 42, 180, 0, 45, 182, 0, 77]
abbrev dktX33_highest_0 : List UInt8 := dkwX33_highest_0 ++ dktX33_highest_1
theorem dksX33_highest_0 : cX33_highest.data.toList.drop 0 = dktX33_highest_0 := by decide +kernel
theorem dksX33_highest_1 : cX33_highest.data.toList.drop 23 = dktX33_highest_1 := dk_seg dksX33_highest_0 23 rfl rfl
theorem dX33_highest_0 : decode cX33_highest 0 = .ok (.aload_n 0, 1) := dk_42 (dk_at dksX33_highest_0 0 rfl rfl)
theorem dX33_highest_1 : decode cX33_highest 1 = .ok (.aload_n 0, 1) := dk_42 (dk_at dksX33_highest_0 1 rfl rfl)
theorem dX33_highest_2 : decode cX33_highest 2 = .ok (.getfield 32, 3) := dk_180 0 32 (dk_at dksX33_highest_0 2 rfl rfl)
theorem dX33_highest_5 : decode cX33_highest 5 = .ok (.ifCond .eq 21, 3) := dk_153 0 21 (dk_at dksX33_highest_0 5 rfl rfl)
theorem dX33_highest_8 : decode cX33_highest 8 = .ok (.aload_n 0, 1) := dk_42 (dk_at dksX33_highest_0 8 rfl rfl)
theorem dX33_highest_9 : decode cX33_highest 9 = .ok (.getfield 21, 3) := dk_180 0 21 (dk_at dksX33_highest_0 9 rfl rfl)
theorem dX33_highest_12 : decode cX33_highest 12 = .ok (.aload_n 0, 1) := dk_42 (dk_at dksX33_highest_0 12 rfl rfl)
theorem dX33_highest_13 : decode cX33_highest 13 = .ok (.getfield 42, 3) := dk_180 0 42 (dk_at dksX33_highest_0 13 rfl rfl)
theorem dX33_highest_16 : decode cX33_highest 16 = .ok (.aload_n 0, 1) := dk_42 (dk_at dksX33_highest_0 16 rfl rfl)
theorem dX33_highest_17 : decode cX33_highest 17 = .ok (.getfield 45, 3) := dk_180 0 45 (dk_at dksX33_highest_0 17 rfl rfl)
theorem dX33_highest_20 : decode cX33_highest 20 = .ok (.invokevirtual 77, 3) := dk_182 0 77 (dk_at dksX33_highest_0 20 rfl rfl)
theorem dX33_highest_23 : decode cX33_highest 23 = .ok (.goto 10, 3) := dk_167 0 10 (dk_at dksX33_highest_1 0 rfl rfl)
theorem dX33_highest_26 : decode cX33_highest 26 = .ok (.aload_n 0, 1) := dk_42 (dk_at dksX33_highest_1 3 rfl rfl)
theorem dX33_highest_27 : decode cX33_highest 27 = .ok (.getfield 21, 3) := dk_180 0 21 (dk_at dksX33_highest_1 4 rfl rfl)
theorem dX33_highest_30 : decode cX33_highest 30 = .ok (.invokevirtual 80, 3) := dk_182 0 80 (dk_at dksX33_highest_1 7 rfl rfl)
theorem dX33_highest_33 : decode cX33_highest 33 = .ok (.invokevirtual 74, 3) := dk_182 0 74 (dk_at dksX33_highest_1 10 rfl rfl)
theorem dX33_highest_36 : decode cX33_highest 36 = .ok (.ireturn, 1) := dk_172 (dk_at dksX33_highest_1 13 rfl rfl)
abbrev cX33_lowest : ByteArray := prog_30_method_10_code
def yX33_lowest : MethodName := ⟨RX33, "lowest", "()I"⟩
def dkwX33_lowest_1 : List UInt8 := [167, 0, 10, 42, 180, 0, 21, 182, 0, 71, 182, 0, 74, 172]
abbrev dktX33_lowest_1 : List UInt8 := dkwX33_lowest_1 ++ []
def dkwX33_lowest_0 : List UInt8 := [42, 42, 180, 0, 29, 153, 0, 21, 42, 180, 0, 21, 42, 180, 0, 35, 42, 180, 0, 39, 182, 0, 67]
abbrev dktX33_lowest_0 : List UInt8 := dkwX33_lowest_0 ++ dktX33_lowest_1
theorem dksX33_lowest_0 : cX33_lowest.data.toList.drop 0 = dktX33_lowest_0 := by decide +kernel
theorem dksX33_lowest_1 : cX33_lowest.data.toList.drop 23 = dktX33_lowest_1 := dk_seg dksX33_lowest_0 23 rfl rfl
theorem dX33_lowest_0 : decode cX33_lowest 0 = .ok (.aload_n 0, 1) := dk_42 (dk_at dksX33_lowest_0 0 rfl rfl)
theorem dX33_lowest_1 : decode cX33_lowest 1 = .ok (.aload_n 0, 1) := dk_42 (dk_at dksX33_lowest_0 1 rfl rfl)
theorem dX33_lowest_2 : decode cX33_lowest 2 = .ok (.getfield 29, 3) := dk_180 0 29 (dk_at dksX33_lowest_0 2 rfl rfl)
theorem dX33_lowest_5 : decode cX33_lowest 5 = .ok (.ifCond .eq 21, 3) := dk_153 0 21 (dk_at dksX33_lowest_0 5 rfl rfl)
theorem dX33_lowest_8 : decode cX33_lowest 8 = .ok (.aload_n 0, 1) := dk_42 (dk_at dksX33_lowest_0 8 rfl rfl)
theorem dX33_lowest_9 : decode cX33_lowest 9 = .ok (.getfield 21, 3) := dk_180 0 21 (dk_at dksX33_lowest_0 9 rfl rfl)
theorem dX33_lowest_12 : decode cX33_lowest 12 = .ok (.aload_n 0, 1) := dk_42 (dk_at dksX33_lowest_0 12 rfl rfl)
theorem dX33_lowest_13 : decode cX33_lowest 13 = .ok (.getfield 35, 3) := dk_180 0 35 (dk_at dksX33_lowest_0 13 rfl rfl)
theorem dX33_lowest_16 : decode cX33_lowest 16 = .ok (.aload_n 0, 1) := dk_42 (dk_at dksX33_lowest_0 16 rfl rfl)
theorem dX33_lowest_17 : decode cX33_lowest 17 = .ok (.getfield 39, 3) := dk_180 0 39 (dk_at dksX33_lowest_0 17 rfl rfl)
theorem dX33_lowest_20 : decode cX33_lowest 20 = .ok (.invokevirtual 67, 3) := dk_182 0 67 (dk_at dksX33_lowest_0 20 rfl rfl)
theorem dX33_lowest_23 : decode cX33_lowest 23 = .ok (.goto 10, 3) := dk_167 0 10 (dk_at dksX33_lowest_1 0 rfl rfl)
theorem dX33_lowest_26 : decode cX33_lowest 26 = .ok (.aload_n 0, 1) := dk_42 (dk_at dksX33_lowest_1 3 rfl rfl)
theorem dX33_lowest_27 : decode cX33_lowest 27 = .ok (.getfield 21, 3) := dk_180 0 21 (dk_at dksX33_lowest_1 4 rfl rfl)
theorem dX33_lowest_30 : decode cX33_lowest 30 = .ok (.invokevirtual 71, 3) := dk_182 0 71 (dk_at dksX33_lowest_1 7 rfl rfl)
theorem dX33_lowest_33 : decode cX33_lowest 33 = .ok (.invokevirtual 74, 3) := dk_182 0 74 (dk_at dksX33_lowest_1 10 rfl rfl)
theorem dX33_lowest_36 : decode cX33_lowest 36 = .ok (.ireturn, 1) := dk_172 (dk_at dksX33_lowest_1 13 rfl rfl)
abbrev cX33_next : ByteArray := prog_30_method_16_code
def yX33_next : MethodName := ⟨RX33, "next", "(I)I"⟩
def dkwX33_next_1 : List UInt8 := [182, 0, 99, 182, 0, 74, 172]
abbrev dktX33_next_1 : List UInt8 := dkwX33_next_1 ++ []
def dkwX33_next_0 : List UInt8 := [42, 42, 180, 0, 25, 153, 0, 14, 42, 180, 0, 21, 27, 182, 0, 96, 167, 0, 11, 42, 180, 0, 21, 27]
abbrev dktX33_next_0 : List UInt8 := dkwX33_next_0 ++ dktX33_next_1
theorem dksX33_next_0 : cX33_next.data.toList.drop 0 = dktX33_next_0 := by decide +kernel
theorem dksX33_next_1 : cX33_next.data.toList.drop 24 = dktX33_next_1 := dk_seg dksX33_next_0 24 rfl rfl
theorem dX33_next_0 : decode cX33_next 0 = .ok (.aload_n 0, 1) := dk_42 (dk_at dksX33_next_0 0 rfl rfl)
theorem dX33_next_1 : decode cX33_next 1 = .ok (.aload_n 0, 1) := dk_42 (dk_at dksX33_next_0 1 rfl rfl)
theorem dX33_next_2 : decode cX33_next 2 = .ok (.getfield 25, 3) := dk_180 0 25 (dk_at dksX33_next_0 2 rfl rfl)
theorem dX33_next_5 : decode cX33_next 5 = .ok (.ifCond .eq 14, 3) := dk_153 0 14 (dk_at dksX33_next_0 5 rfl rfl)
theorem dX33_next_8 : decode cX33_next 8 = .ok (.aload_n 0, 1) := dk_42 (dk_at dksX33_next_0 8 rfl rfl)
theorem dX33_next_9 : decode cX33_next 9 = .ok (.getfield 21, 3) := dk_180 0 21 (dk_at dksX33_next_0 9 rfl rfl)
theorem dX33_next_12 : decode cX33_next 12 = .ok (.iload_n 1, 1) := dk_27 (dk_at dksX33_next_0 12 rfl rfl)
theorem dX33_next_13 : decode cX33_next 13 = .ok (.invokevirtual 96, 3) := dk_182 0 96 (dk_at dksX33_next_0 13 rfl rfl)
theorem dX33_next_16 : decode cX33_next 16 = .ok (.goto 11, 3) := dk_167 0 11 (dk_at dksX33_next_0 16 rfl rfl)
theorem dX33_next_19 : decode cX33_next 19 = .ok (.aload_n 0, 1) := dk_42 (dk_at dksX33_next_0 19 rfl rfl)
theorem dX33_next_20 : decode cX33_next 20 = .ok (.getfield 21, 3) := dk_180 0 21 (dk_at dksX33_next_0 20 rfl rfl)
theorem dX33_next_23 : decode cX33_next 23 = .ok (.iload_n 1, 1) := dk_27 (dk_at dksX33_next_0 23 rfl rfl)
theorem dX33_next_24 : decode cX33_next 24 = .ok (.invokevirtual 99, 3) := dk_182 0 99 (dk_at dksX33_next_1 0 rfl rfl)
theorem dX33_next_27 : decode cX33_next 27 = .ok (.invokevirtual 74, 3) := dk_182 0 74 (dk_at dksX33_next_1 3 rfl rfl)
theorem dX33_next_30 : decode cX33_next 30 = .ok (.ireturn, 1) := dk_172 (dk_at dksX33_next_1 6 rfl rfl)
abbrev cX33_clear : ByteArray := prog_30_method_23_code
def yX33_clear : MethodName := ⟨RX33, "clea\x72", "()V"⟩
def dkwX33_clear_2 : List UInt8 := [180, 0, 21, 27, 4, 96, 181, 0, 120, 177]
abbrev dktX33_clear_2 : List UInt8 := dkwX33_clear_2 ++ []
def dkwX33_clear_1 : List UInt8 := [182, 0, 117, 42, 182, 0, 83, 61, 167, 255, 239, 42, 180, 0, 21, 180, 0, 120, 27, 159, 0, 13, 42]
abbrev dktX33_clear_1 : List UInt8 := dkwX33_clear_1 ++ dktX33_clear_2
def dkwX33_clear_0 : List UInt8 := [42, 180, 0, 21, 180, 0, 120, 60, 42, 182, 0, 83, 61, 28, 155, 0, 19, 42, 180, 0, 21, 28]
abbrev dktX33_clear_0 : List UInt8 := dkwX33_clear_0 ++ dktX33_clear_1
theorem dksX33_clear_0 : cX33_clear.data.toList.drop 0 = dktX33_clear_0 := by decide +kernel
theorem dksX33_clear_1 : cX33_clear.data.toList.drop 22 = dktX33_clear_1 := dk_seg dksX33_clear_0 22 rfl rfl
theorem dksX33_clear_2 : cX33_clear.data.toList.drop 45 = dktX33_clear_2 := dk_seg dksX33_clear_1 23 rfl rfl
theorem dX33_clear_0 : decode cX33_clear 0 = .ok (.aload_n 0, 1) := dk_42 (dk_at dksX33_clear_0 0 rfl rfl)
theorem dX33_clear_1 : decode cX33_clear 1 = .ok (.getfield 21, 3) := dk_180 0 21 (dk_at dksX33_clear_0 1 rfl rfl)
theorem dX33_clear_4 : decode cX33_clear 4 = .ok (.getfield 120, 3) := dk_180 0 120 (dk_at dksX33_clear_0 4 rfl rfl)
theorem dX33_clear_7 : decode cX33_clear 7 = .ok (.istore_n 1, 1) := dk_60 (dk_at dksX33_clear_0 7 rfl rfl)
theorem dX33_clear_8 : decode cX33_clear 8 = .ok (.aload_n 0, 1) := dk_42 (dk_at dksX33_clear_0 8 rfl rfl)
theorem dX33_clear_9 : decode cX33_clear 9 = .ok (.invokevirtual 83, 3) := dk_182 0 83 (dk_at dksX33_clear_0 9 rfl rfl)
theorem dX33_clear_12 : decode cX33_clear 12 = .ok (.istore_n 2, 1) := dk_61 (dk_at dksX33_clear_0 12 rfl rfl)
theorem dX33_clear_13 : decode cX33_clear 13 = .ok (.iload_n 2, 1) := dk_28 (dk_at dksX33_clear_0 13 rfl rfl)
theorem dX33_clear_14 : decode cX33_clear 14 = .ok (.ifCond .lt 19, 3) := dk_155 0 19 (dk_at dksX33_clear_0 14 rfl rfl)
theorem dX33_clear_17 : decode cX33_clear 17 = .ok (.aload_n 0, 1) := dk_42 (dk_at dksX33_clear_0 17 rfl rfl)
theorem dX33_clear_18 : decode cX33_clear 18 = .ok (.getfield 21, 3) := dk_180 0 21 (dk_at dksX33_clear_0 18 rfl rfl)
theorem dX33_clear_21 : decode cX33_clear 21 = .ok (.iload_n 2, 1) := dk_28 (dk_at dksX33_clear_0 21 rfl rfl)
theorem dX33_clear_22 : decode cX33_clear 22 = .ok (.invokevirtual 117, 3) := dk_182 0 117 (dk_at dksX33_clear_1 0 rfl rfl)
theorem dX33_clear_25 : decode cX33_clear 25 = .ok (.aload_n 0, 1) := dk_42 (dk_at dksX33_clear_1 3 rfl rfl)
theorem dX33_clear_26 : decode cX33_clear 26 = .ok (.invokevirtual 83, 3) := dk_182 0 83 (dk_at dksX33_clear_1 4 rfl rfl)
theorem dX33_clear_29 : decode cX33_clear 29 = .ok (.istore_n 2, 1) := dk_61 (dk_at dksX33_clear_1 7 rfl rfl)
theorem dX33_clear_30 : decode cX33_clear 30 = .ok (.goto (-17), 3) := dk_167 255 239 (dk_at dksX33_clear_1 8 rfl rfl)
theorem dX33_clear_33 : decode cX33_clear 33 = .ok (.aload_n 0, 1) := dk_42 (dk_at dksX33_clear_1 11 rfl rfl)
theorem dX33_clear_34 : decode cX33_clear 34 = .ok (.getfield 21, 3) := dk_180 0 21 (dk_at dksX33_clear_1 12 rfl rfl)
theorem dX33_clear_37 : decode cX33_clear 37 = .ok (.getfield 120, 3) := dk_180 0 120 (dk_at dksX33_clear_1 15 rfl rfl)
theorem dX33_clear_40 : decode cX33_clear 40 = .ok (.iload_n 1, 1) := dk_27 (dk_at dksX33_clear_1 18 rfl rfl)
theorem dX33_clear_41 : decode cX33_clear 41 = .ok (.if_icmp .eq 13, 3) := dk_159 0 13 (dk_at dksX33_clear_1 19 rfl rfl)
theorem dX33_clear_44 : decode cX33_clear 44 = .ok (.aload_n 0, 1) := dk_42 (dk_at dksX33_clear_1 22 rfl rfl)
theorem dX33_clear_45 : decode cX33_clear 45 = .ok (.getfield 21, 3) := dk_180 0 21 (dk_at dksX33_clear_2 0 rfl rfl)
theorem dX33_clear_48 : decode cX33_clear 48 = .ok (.iload_n 1, 1) := dk_27 (dk_at dksX33_clear_2 3 rfl rfl)
theorem dX33_clear_49 : decode cX33_clear 49 = .ok (.iconst 1, 1) := dk_4 (dk_at dksX33_clear_2 4 rfl rfl)
theorem dX33_clear_50 : decode cX33_clear 50 = .ok (.iadd, 1) := dk_96 (dk_at dksX33_clear_2 5 rfl rfl)
theorem dX33_clear_51 : decode cX33_clear 51 = .ok (.putfield 120, 3) := dk_181 0 120 (dk_at dksX33_clear_2 6 rfl rfl)
theorem dX33_clear_54 : decode cX33_clear 54 = .ok (.return_, 1) := dk_177 (dk_at dksX33_clear_2 9 rfl rfl)
abbrev cX33_last : ByteArray := prog_30_method_15_code
def yX33_last : MethodName := ⟨RX33, "last", "()I"⟩
def dkwX33_last_0 : List UInt8 := [42, 180, 0, 25, 153, 0, 10, 42, 182, 0, 93, 167, 0, 7, 42, 182, 0, 90, 172]
abbrev dktX33_last_0 : List UInt8 := dkwX33_last_0 ++ []
theorem dksX33_last_0 : cX33_last.data.toList.drop 0 = dktX33_last_0 := by decide +kernel
theorem dX33_last_0 : decode cX33_last 0 = .ok (.aload_n 0, 1) := dk_42 (dk_at dksX33_last_0 0 rfl rfl)
theorem dX33_last_1 : decode cX33_last 1 = .ok (.getfield 25, 3) := dk_180 0 25 (dk_at dksX33_last_0 1 rfl rfl)
theorem dX33_last_4 : decode cX33_last 4 = .ok (.ifCond .eq 10, 3) := dk_153 0 10 (dk_at dksX33_last_0 4 rfl rfl)
theorem dX33_last_7 : decode cX33_last 7 = .ok (.aload_n 0, 1) := dk_42 (dk_at dksX33_last_0 7 rfl rfl)
theorem dX33_last_8 : decode cX33_last 8 = .ok (.invokevirtual 93, 3) := dk_182 0 93 (dk_at dksX33_last_0 8 rfl rfl)
theorem dX33_last_11 : decode cX33_last 11 = .ok (.goto 7, 3) := dk_167 0 7 (dk_at dksX33_last_0 11 rfl rfl)
theorem dX33_last_14 : decode cX33_last 14 = .ok (.aload_n 0, 1) := dk_42 (dk_at dksX33_last_0 14 rfl rfl)
theorem dX33_last_15 : decode cX33_last 15 = .ok (.invokevirtual 90, 3) := dk_182 0 90 (dk_at dksX33_last_0 15 rfl rfl)
theorem dX33_last_18 : decode cX33_last 18 = .ok (.ireturn, 1) := dk_172 (dk_at dksX33_last_0 18 rfl rfl)
abbrev cX33_key : ByteArray := prog_30_method_17_code
def yX33_key : MethodName := ⟨RX33, "key", "(I)I"⟩
def dkwX33_key_0 : List UInt8 := [42, 180, 0, 21, 27, 182, 0, 59, 172]
abbrev dktX33_key_0 : List UInt8 := dkwX33_key_0 ++ []
theorem dksX33_key_0 : cX33_key.data.toList.drop 0 = dktX33_key_0 := by decide +kernel
theorem dX33_key_0 : decode cX33_key 0 = .ok (.aload_n 0, 1) := dk_42 (dk_at dksX33_key_0 0 rfl rfl)
theorem dX33_key_1 : decode cX33_key 1 = .ok (.getfield 21, 3) := dk_180 0 21 (dk_at dksX33_key_0 1 rfl rfl)
theorem dX33_key_4 : decode cX33_key 4 = .ok (.iload_n 1, 1) := dk_27 (dk_at dksX33_key_0 4 rfl rfl)
theorem dX33_key_5 : decode cX33_key 5 = .ok (.invokevirtual 59, 3) := dk_182 0 59 (dk_at dksX33_key_0 5 rfl rfl)
theorem dX33_key_8 : decode cX33_key 8 = .ok (.ireturn, 1) := dk_172 (dk_at dksX33_key_0 8 rfl rfl)
abbrev cX33_compare : ByteArray := prog_30_method_7_code
def yX33_compare : MethodName := ⟨RX33, "compare", "(II)I"⟩
def dkwX33_compare_1 : List UInt8 := [28, 182, 0, 48, 172]
abbrev dktX33_compare_1 : List UInt8 := dkwX33_compare_1 ++ []
def dkwX33_compare_0 : List UInt8 := [42, 180, 0, 25, 153, 0, 15, 42, 180, 0, 21, 28, 27, 182, 0, 48, 167, 0, 12, 42, 180, 0, 21, 27]
abbrev dktX33_compare_0 : List UInt8 := dkwX33_compare_0 ++ dktX33_compare_1
theorem dksX33_compare_0 : cX33_compare.data.toList.drop 0 = dktX33_compare_0 := by decide +kernel
theorem dksX33_compare_1 : cX33_compare.data.toList.drop 24 = dktX33_compare_1 := dk_seg dksX33_compare_0 24 rfl rfl
theorem dX33_compare_0 : decode cX33_compare 0 = .ok (.aload_n 0, 1) := dk_42 (dk_at dksX33_compare_0 0 rfl rfl)
theorem dX33_compare_1 : decode cX33_compare 1 = .ok (.getfield 25, 3) := dk_180 0 25 (dk_at dksX33_compare_0 1 rfl rfl)
theorem dX33_compare_4 : decode cX33_compare 4 = .ok (.ifCond .eq 15, 3) := dk_153 0 15 (dk_at dksX33_compare_0 4 rfl rfl)
theorem dX33_compare_7 : decode cX33_compare 7 = .ok (.aload_n 0, 1) := dk_42 (dk_at dksX33_compare_0 7 rfl rfl)
theorem dX33_compare_8 : decode cX33_compare 8 = .ok (.getfield 21, 3) := dk_180 0 21 (dk_at dksX33_compare_0 8 rfl rfl)
theorem dX33_compare_11 : decode cX33_compare 11 = .ok (.iload_n 2, 1) := dk_28 (dk_at dksX33_compare_0 11 rfl rfl)
theorem dX33_compare_12 : decode cX33_compare 12 = .ok (.iload_n 1, 1) := dk_27 (dk_at dksX33_compare_0 12 rfl rfl)
theorem dX33_compare_13 : decode cX33_compare 13 = .ok (.invokevirtual 48, 3) := dk_182 0 48 (dk_at dksX33_compare_0 13 rfl rfl)
theorem dX33_compare_16 : decode cX33_compare 16 = .ok (.goto 12, 3) := dk_167 0 12 (dk_at dksX33_compare_0 16 rfl rfl)
theorem dX33_compare_19 : decode cX33_compare 19 = .ok (.aload_n 0, 1) := dk_42 (dk_at dksX33_compare_0 19 rfl rfl)
theorem dX33_compare_20 : decode cX33_compare 20 = .ok (.getfield 21, 3) := dk_180 0 21 (dk_at dksX33_compare_0 20 rfl rfl)
theorem dX33_compare_23 : decode cX33_compare 23 = .ok (.iload_n 1, 1) := dk_27 (dk_at dksX33_compare_0 23 rfl rfl)
theorem dX33_compare_24 : decode cX33_compare 24 = .ok (.iload_n 2, 1) := dk_28 (dk_at dksX33_compare_1 0 rfl rfl)
theorem dX33_compare_25 : decode cX33_compare 25 = .ok (.invokevirtual 48, 3) := dk_182 0 48 (dk_at dksX33_compare_1 1 rfl rfl)
theorem dX33_compare_28 : decode cX33_compare 28 = .ok (.ireturn, 1) := dk_172 (dk_at dksX33_compare_1 4 rfl rfl)
abbrev cX33_begin : ByteArray := prog_30_method_2_code
def yX33_begin : MethodName := ⟨RX33, "begin", "(LLibraryDesk$Maps;)V"⟩
def dkwX33_begin_4 : List UInt8 := [180, 0, 32, 181, 0, 32, 42, 44, 180, 0, 42, 181, 0, 42, 42, 44, 180, 0, 45, 181, 0, 45, 177]
abbrev dktX33_begin_4 : List UInt8 := dkwX33_begin_4 ++ []
def dkwX33_begin_3 : List UInt8 := [180, 0, 29, 181, 0, 29, 42, 44, 180, 0, 35, 181, 0, 35, 42, 44, 180, 0, 39, 181, 0, 39, 42, 44]
abbrev dktX33_begin_3 : List UInt8 := dkwX33_begin_3 ++ dktX33_begin_4
def dkwX33_begin_2 : List UInt8 := [192, 0, 10, 77, 42, 44, 180, 0, 21, 181, 0, 21, 42, 44, 180, 0, 25, 181, 0, 25, 42, 44]
abbrev dktX33_begin_2 : List UInt8 := dkwX33_begin_2 ++ dktX33_begin_3
def dkwX33_begin_1 : List UInt8 := [181, 0, 21, 42, 3, 181, 0, 25, 42, 3, 181, 0, 29, 42, 3, 181, 0, 32, 177, 42, 180, 0, 9]
abbrev dktX33_begin_1 : List UInt8 := dkwX33_begin_1 ++ dktX33_begin_2
def dkwX33_begin_0 : List UInt8 := [42, 43, 181, 0, 9, 42, 180, 0, 9, 182, 0, 15, 7, 160, 0, 30, 42, 42, 180, 0, 9, 192, 0, 19]
abbrev dktX33_begin_0 : List UInt8 := dkwX33_begin_0 ++ dktX33_begin_1
theorem dksX33_begin_0 : cX33_begin.data.toList.drop 0 = dktX33_begin_0 := by decide +kernel
theorem dksX33_begin_1 : cX33_begin.data.toList.drop 24 = dktX33_begin_1 := dk_seg dksX33_begin_0 24 rfl rfl
theorem dksX33_begin_2 : cX33_begin.data.toList.drop 47 = dktX33_begin_2 := dk_seg dksX33_begin_1 23 rfl rfl
theorem dksX33_begin_3 : cX33_begin.data.toList.drop 69 = dktX33_begin_3 := dk_seg dksX33_begin_2 22 rfl rfl
theorem dksX33_begin_4 : cX33_begin.data.toList.drop 93 = dktX33_begin_4 := dk_seg dksX33_begin_3 24 rfl rfl
theorem dX33_begin_0 : decode cX33_begin 0 = .ok (.aload_n 0, 1) := dk_42 (dk_at dksX33_begin_0 0 rfl rfl)
theorem dX33_begin_1 : decode cX33_begin 1 = .ok (.aload_n 1, 1) := dk_43 (dk_at dksX33_begin_0 1 rfl rfl)
theorem dX33_begin_2 : decode cX33_begin 2 = .ok (.putfield 9, 3) := dk_181 0 9 (dk_at dksX33_begin_0 2 rfl rfl)
theorem dX33_begin_5 : decode cX33_begin 5 = .ok (.aload_n 0, 1) := dk_42 (dk_at dksX33_begin_0 5 rfl rfl)
theorem dX33_begin_6 : decode cX33_begin 6 = .ok (.getfield 9, 3) := dk_180 0 9 (dk_at dksX33_begin_0 6 rfl rfl)
theorem dX33_begin_9 : decode cX33_begin 9 = .ok (.invokevirtual 15, 3) := dk_182 0 15 (dk_at dksX33_begin_0 9 rfl rfl)
theorem dX33_begin_12 : decode cX33_begin 12 = .ok (.iconst 4, 1) := dk_7 (dk_at dksX33_begin_0 12 rfl rfl)
theorem dX33_begin_13 : decode cX33_begin 13 = .ok (.if_icmp .ne 30, 3) := dk_160 0 30 (dk_at dksX33_begin_0 13 rfl rfl)
theorem dX33_begin_16 : decode cX33_begin 16 = .ok (.aload_n 0, 1) := dk_42 (dk_at dksX33_begin_0 16 rfl rfl)
theorem dX33_begin_17 : decode cX33_begin 17 = .ok (.aload_n 0, 1) := dk_42 (dk_at dksX33_begin_0 17 rfl rfl)
theorem dX33_begin_18 : decode cX33_begin 18 = .ok (.getfield 9, 3) := dk_180 0 9 (dk_at dksX33_begin_0 18 rfl rfl)
theorem dX33_begin_21 : decode cX33_begin 21 = .ok (.checkcast 19, 3) := dk_192 0 19 (dk_at dksX33_begin_0 21 rfl rfl)
theorem dX33_begin_24 : decode cX33_begin 24 = .ok (.putfield 21, 3) := dk_181 0 21 (dk_at dksX33_begin_1 0 rfl rfl)
theorem dX33_begin_27 : decode cX33_begin 27 = .ok (.aload_n 0, 1) := dk_42 (dk_at dksX33_begin_1 3 rfl rfl)
theorem dX33_begin_28 : decode cX33_begin 28 = .ok (.iconst 0, 1) := dk_3 (dk_at dksX33_begin_1 4 rfl rfl)
theorem dX33_begin_29 : decode cX33_begin 29 = .ok (.putfield 25, 3) := dk_181 0 25 (dk_at dksX33_begin_1 5 rfl rfl)
theorem dX33_begin_32 : decode cX33_begin 32 = .ok (.aload_n 0, 1) := dk_42 (dk_at dksX33_begin_1 8 rfl rfl)
theorem dX33_begin_33 : decode cX33_begin 33 = .ok (.iconst 0, 1) := dk_3 (dk_at dksX33_begin_1 9 rfl rfl)
theorem dX33_begin_34 : decode cX33_begin 34 = .ok (.putfield 29, 3) := dk_181 0 29 (dk_at dksX33_begin_1 10 rfl rfl)
theorem dX33_begin_37 : decode cX33_begin 37 = .ok (.aload_n 0, 1) := dk_42 (dk_at dksX33_begin_1 13 rfl rfl)
theorem dX33_begin_38 : decode cX33_begin 38 = .ok (.iconst 0, 1) := dk_3 (dk_at dksX33_begin_1 14 rfl rfl)
theorem dX33_begin_39 : decode cX33_begin 39 = .ok (.putfield 32, 3) := dk_181 0 32 (dk_at dksX33_begin_1 15 rfl rfl)
theorem dX33_begin_42 : decode cX33_begin 42 = .ok (.return_, 1) := dk_177 (dk_at dksX33_begin_1 18 rfl rfl)
theorem dX33_begin_43 : decode cX33_begin 43 = .ok (.aload_n 0, 1) := dk_42 (dk_at dksX33_begin_1 19 rfl rfl)
theorem dX33_begin_44 : decode cX33_begin 44 = .ok (.getfield 9, 3) := dk_180 0 9 (dk_at dksX33_begin_1 20 rfl rfl)
theorem dX33_begin_47 : decode cX33_begin 47 = .ok (.checkcast 10, 3) := dk_192 0 10 (dk_at dksX33_begin_2 0 rfl rfl)
theorem dX33_begin_50 : decode cX33_begin 50 = .ok (.astore_n 2, 1) := dk_77 (dk_at dksX33_begin_2 3 rfl rfl)
theorem dX33_begin_51 : decode cX33_begin 51 = .ok (.aload_n 0, 1) := dk_42 (dk_at dksX33_begin_2 4 rfl rfl)
theorem dX33_begin_52 : decode cX33_begin 52 = .ok (.aload_n 2, 1) := dk_44 (dk_at dksX33_begin_2 5 rfl rfl)
theorem dX33_begin_53 : decode cX33_begin 53 = .ok (.getfield 21, 3) := dk_180 0 21 (dk_at dksX33_begin_2 6 rfl rfl)
theorem dX33_begin_56 : decode cX33_begin 56 = .ok (.putfield 21, 3) := dk_181 0 21 (dk_at dksX33_begin_2 9 rfl rfl)
theorem dX33_begin_59 : decode cX33_begin 59 = .ok (.aload_n 0, 1) := dk_42 (dk_at dksX33_begin_2 12 rfl rfl)
theorem dX33_begin_60 : decode cX33_begin 60 = .ok (.aload_n 2, 1) := dk_44 (dk_at dksX33_begin_2 13 rfl rfl)
theorem dX33_begin_61 : decode cX33_begin 61 = .ok (.getfield 25, 3) := dk_180 0 25 (dk_at dksX33_begin_2 14 rfl rfl)
theorem dX33_begin_64 : decode cX33_begin 64 = .ok (.putfield 25, 3) := dk_181 0 25 (dk_at dksX33_begin_2 17 rfl rfl)
theorem dX33_begin_67 : decode cX33_begin 67 = .ok (.aload_n 0, 1) := dk_42 (dk_at dksX33_begin_2 20 rfl rfl)
theorem dX33_begin_68 : decode cX33_begin 68 = .ok (.aload_n 2, 1) := dk_44 (dk_at dksX33_begin_2 21 rfl rfl)
theorem dX33_begin_69 : decode cX33_begin 69 = .ok (.getfield 29, 3) := dk_180 0 29 (dk_at dksX33_begin_3 0 rfl rfl)
theorem dX33_begin_72 : decode cX33_begin 72 = .ok (.putfield 29, 3) := dk_181 0 29 (dk_at dksX33_begin_3 3 rfl rfl)
theorem dX33_begin_75 : decode cX33_begin 75 = .ok (.aload_n 0, 1) := dk_42 (dk_at dksX33_begin_3 6 rfl rfl)
theorem dX33_begin_76 : decode cX33_begin 76 = .ok (.aload_n 2, 1) := dk_44 (dk_at dksX33_begin_3 7 rfl rfl)
theorem dX33_begin_77 : decode cX33_begin 77 = .ok (.getfield 35, 3) := dk_180 0 35 (dk_at dksX33_begin_3 8 rfl rfl)
theorem dX33_begin_80 : decode cX33_begin 80 = .ok (.putfield 35, 3) := dk_181 0 35 (dk_at dksX33_begin_3 11 rfl rfl)
theorem dX33_begin_83 : decode cX33_begin 83 = .ok (.aload_n 0, 1) := dk_42 (dk_at dksX33_begin_3 14 rfl rfl)
theorem dX33_begin_84 : decode cX33_begin 84 = .ok (.aload_n 2, 1) := dk_44 (dk_at dksX33_begin_3 15 rfl rfl)
theorem dX33_begin_85 : decode cX33_begin 85 = .ok (.getfield 39, 3) := dk_180 0 39 (dk_at dksX33_begin_3 16 rfl rfl)
theorem dX33_begin_88 : decode cX33_begin 88 = .ok (.putfield 39, 3) := dk_181 0 39 (dk_at dksX33_begin_3 19 rfl rfl)
theorem dX33_begin_91 : decode cX33_begin 91 = .ok (.aload_n 0, 1) := dk_42 (dk_at dksX33_begin_3 22 rfl rfl)
theorem dX33_begin_92 : decode cX33_begin 92 = .ok (.aload_n 2, 1) := dk_44 (dk_at dksX33_begin_3 23 rfl rfl)
theorem dX33_begin_93 : decode cX33_begin 93 = .ok (.getfield 32, 3) := dk_180 0 32 (dk_at dksX33_begin_4 0 rfl rfl)
theorem dX33_begin_96 : decode cX33_begin 96 = .ok (.putfield 32, 3) := dk_181 0 32 (dk_at dksX33_begin_4 3 rfl rfl)
theorem dX33_begin_99 : decode cX33_begin 99 = .ok (.aload_n 0, 1) := dk_42 (dk_at dksX33_begin_4 6 rfl rfl)
theorem dX33_begin_100 : decode cX33_begin 100 = .ok (.aload_n 2, 1) := dk_44 (dk_at dksX33_begin_4 7 rfl rfl)
theorem dX33_begin_101 : decode cX33_begin 101 = .ok (.getfield 42, 3) := dk_180 0 42 (dk_at dksX33_begin_4 8 rfl rfl)
theorem dX33_begin_104 : decode cX33_begin 104 = .ok (.putfield 42, 3) := dk_181 0 42 (dk_at dksX33_begin_4 11 rfl rfl)
theorem dX33_begin_107 : decode cX33_begin 107 = .ok (.aload_n 0, 1) := dk_42 (dk_at dksX33_begin_4 14 rfl rfl)
theorem dX33_begin_108 : decode cX33_begin 108 = .ok (.aload_n 2, 1) := dk_44 (dk_at dksX33_begin_4 15 rfl rfl)
theorem dX33_begin_109 : decode cX33_begin 109 = .ok (.getfield 45, 3) := dk_180 0 45 (dk_at dksX33_begin_4 16 rfl rfl)
theorem dX33_begin_112 : decode cX33_begin 112 = .ok (.putfield 45, 3) := dk_181 0 45 (dk_at dksX33_begin_4 19 rfl rfl)
theorem dX33_begin_115 : decode cX33_begin 115 = .ok (.return_, 1) := dk_177 (dk_at dksX33_begin_4 22 rfl rfl)
abbrev cX33_fromOn : ByteArray := prog_30_method_5_code
def yX33_fromOn : MethodName := ⟨RX33, "fromOn", "(I)V"⟩
def dkwX33_fromOn_0 : List UInt8 := [42, 180, 0, 25, 153, 0, 12, 42, 27, 3, 182, 0, 52, 167, 0, 9, 42, 27, 3, 182, 0, 56, 177]
abbrev dktX33_fromOn_0 : List UInt8 := dkwX33_fromOn_0 ++ []
theorem dksX33_fromOn_0 : cX33_fromOn.data.toList.drop 0 = dktX33_fromOn_0 := by decide +kernel
theorem dX33_fromOn_0 : decode cX33_fromOn 0 = .ok (.aload_n 0, 1) := dk_42 (dk_at dksX33_fromOn_0 0 rfl rfl)
theorem dX33_fromOn_1 : decode cX33_fromOn 1 = .ok (.getfield 25, 3) := dk_180 0 25 (dk_at dksX33_fromOn_0 1 rfl rfl)
theorem dX33_fromOn_4 : decode cX33_fromOn 4 = .ok (.ifCond .eq 12, 3) := dk_153 0 12 (dk_at dksX33_fromOn_0 4 rfl rfl)
theorem dX33_fromOn_7 : decode cX33_fromOn 7 = .ok (.aload_n 0, 1) := dk_42 (dk_at dksX33_fromOn_0 7 rfl rfl)
theorem dX33_fromOn_8 : decode cX33_fromOn 8 = .ok (.iload_n 1, 1) := dk_27 (dk_at dksX33_fromOn_0 8 rfl rfl)
theorem dX33_fromOn_9 : decode cX33_fromOn 9 = .ok (.iconst 0, 1) := dk_3 (dk_at dksX33_fromOn_0 9 rfl rfl)
theorem dX33_fromOn_10 : decode cX33_fromOn 10 = .ok (.invokevirtual 52, 3) := dk_182 0 52 (dk_at dksX33_fromOn_0 10 rfl rfl)
theorem dX33_fromOn_13 : decode cX33_fromOn 13 = .ok (.goto 9, 3) := dk_167 0 9 (dk_at dksX33_fromOn_0 13 rfl rfl)
theorem dX33_fromOn_16 : decode cX33_fromOn 16 = .ok (.aload_n 0, 1) := dk_42 (dk_at dksX33_fromOn_0 16 rfl rfl)
theorem dX33_fromOn_17 : decode cX33_fromOn 17 = .ok (.iload_n 1, 1) := dk_27 (dk_at dksX33_fromOn_0 17 rfl rfl)
theorem dX33_fromOn_18 : decode cX33_fromOn 18 = .ok (.iconst 0, 1) := dk_3 (dk_at dksX33_fromOn_0 18 rfl rfl)
theorem dX33_fromOn_19 : decode cX33_fromOn 19 = .ok (.invokevirtual 56, 3) := dk_182 0 56 (dk_at dksX33_fromOn_0 19 rfl rfl)
theorem dX33_fromOn_22 : decode cX33_fromOn 22 = .ok (.return_, 1) := dk_177 (dk_at dksX33_fromOn_0 22 rfl rfl)
abbrev cX33_below : ByteArray := prog_30_method_4_code
def yX33_below : MethodName := ⟨RX33, "below", "(IZ)V"⟩
def dkwX33_below_2 : List UInt8 := [167, 0, 8, 3, 167, 0, 4, 28, 181, 0, 45, 42, 27, 181, 0, 42, 42, 4, 181, 0, 32, 177]
abbrev dktX33_below_2 : List UInt8 := dkwX33_below_2 ++ []
def dkwX33_below_1 : List UInt8 := [29, 158, 0, 4, 177, 42, 29, 154, 0, 22, 42, 180, 0, 45, 154, 0, 7, 28, 153, 0, 7, 4]
abbrev dktX33_below_1 : List UInt8 := dkwX33_below_1 ++ dktX33_below_2
def dkwX33_below_0 : List UInt8 := [42, 180, 0, 32, 153, 0, 18, 42, 180, 0, 21, 27, 42, 180, 0, 42, 182, 0, 48, 167, 0, 4, 2, 62]
abbrev dktX33_below_0 : List UInt8 := dkwX33_below_0 ++ dktX33_below_1
theorem dksX33_below_0 : cX33_below.data.toList.drop 0 = dktX33_below_0 := by decide +kernel
theorem dksX33_below_1 : cX33_below.data.toList.drop 24 = dktX33_below_1 := dk_seg dksX33_below_0 24 rfl rfl
theorem dksX33_below_2 : cX33_below.data.toList.drop 46 = dktX33_below_2 := dk_seg dksX33_below_1 22 rfl rfl
theorem dX33_below_0 : decode cX33_below 0 = .ok (.aload_n 0, 1) := dk_42 (dk_at dksX33_below_0 0 rfl rfl)
theorem dX33_below_1 : decode cX33_below 1 = .ok (.getfield 32, 3) := dk_180 0 32 (dk_at dksX33_below_0 1 rfl rfl)
theorem dX33_below_4 : decode cX33_below 4 = .ok (.ifCond .eq 18, 3) := dk_153 0 18 (dk_at dksX33_below_0 4 rfl rfl)
theorem dX33_below_7 : decode cX33_below 7 = .ok (.aload_n 0, 1) := dk_42 (dk_at dksX33_below_0 7 rfl rfl)
theorem dX33_below_8 : decode cX33_below 8 = .ok (.getfield 21, 3) := dk_180 0 21 (dk_at dksX33_below_0 8 rfl rfl)
theorem dX33_below_11 : decode cX33_below 11 = .ok (.iload_n 1, 1) := dk_27 (dk_at dksX33_below_0 11 rfl rfl)
theorem dX33_below_12 : decode cX33_below 12 = .ok (.aload_n 0, 1) := dk_42 (dk_at dksX33_below_0 12 rfl rfl)
theorem dX33_below_13 : decode cX33_below 13 = .ok (.getfield 42, 3) := dk_180 0 42 (dk_at dksX33_below_0 13 rfl rfl)
theorem dX33_below_16 : decode cX33_below 16 = .ok (.invokevirtual 48, 3) := dk_182 0 48 (dk_at dksX33_below_0 16 rfl rfl)
theorem dX33_below_19 : decode cX33_below 19 = .ok (.goto 4, 3) := dk_167 0 4 (dk_at dksX33_below_0 19 rfl rfl)
theorem dX33_below_22 : decode cX33_below 22 = .ok (.iconst (-1), 1) := dk_2 (dk_at dksX33_below_0 22 rfl rfl)
theorem dX33_below_23 : decode cX33_below 23 = .ok (.istore_n 3, 1) := dk_62 (dk_at dksX33_below_0 23 rfl rfl)
theorem dX33_below_24 : decode cX33_below 24 = .ok (.iload_n 3, 1) := dk_29 (dk_at dksX33_below_1 0 rfl rfl)
theorem dX33_below_25 : decode cX33_below 25 = .ok (.ifCond .le 4, 3) := dk_158 0 4 (dk_at dksX33_below_1 1 rfl rfl)
theorem dX33_below_28 : decode cX33_below 28 = .ok (.return_, 1) := dk_177 (dk_at dksX33_below_1 4 rfl rfl)
theorem dX33_below_29 : decode cX33_below 29 = .ok (.aload_n 0, 1) := dk_42 (dk_at dksX33_below_1 5 rfl rfl)
theorem dX33_below_30 : decode cX33_below 30 = .ok (.iload_n 3, 1) := dk_29 (dk_at dksX33_below_1 6 rfl rfl)
theorem dX33_below_31 : decode cX33_below 31 = .ok (.ifCond .ne 22, 3) := dk_154 0 22 (dk_at dksX33_below_1 7 rfl rfl)
theorem dX33_below_34 : decode cX33_below 34 = .ok (.aload_n 0, 1) := dk_42 (dk_at dksX33_below_1 10 rfl rfl)
theorem dX33_below_35 : decode cX33_below 35 = .ok (.getfield 45, 3) := dk_180 0 45 (dk_at dksX33_below_1 11 rfl rfl)
theorem dX33_below_38 : decode cX33_below 38 = .ok (.ifCond .ne 7, 3) := dk_154 0 7 (dk_at dksX33_below_1 14 rfl rfl)
theorem dX33_below_41 : decode cX33_below 41 = .ok (.iload_n 2, 1) := dk_28 (dk_at dksX33_below_1 17 rfl rfl)
theorem dX33_below_42 : decode cX33_below 42 = .ok (.ifCond .eq 7, 3) := dk_153 0 7 (dk_at dksX33_below_1 18 rfl rfl)
theorem dX33_below_45 : decode cX33_below 45 = .ok (.iconst 1, 1) := dk_4 (dk_at dksX33_below_1 21 rfl rfl)
theorem dX33_below_46 : decode cX33_below 46 = .ok (.goto 8, 3) := dk_167 0 8 (dk_at dksX33_below_2 0 rfl rfl)
theorem dX33_below_49 : decode cX33_below 49 = .ok (.iconst 0, 1) := dk_3 (dk_at dksX33_below_2 3 rfl rfl)
theorem dX33_below_50 : decode cX33_below 50 = .ok (.goto 4, 3) := dk_167 0 4 (dk_at dksX33_below_2 4 rfl rfl)
theorem dX33_below_53 : decode cX33_below 53 = .ok (.iload_n 2, 1) := dk_28 (dk_at dksX33_below_2 7 rfl rfl)
theorem dX33_below_54 : decode cX33_below 54 = .ok (.putfield 45, 3) := dk_181 0 45 (dk_at dksX33_below_2 8 rfl rfl)
theorem dX33_below_57 : decode cX33_below 57 = .ok (.aload_n 0, 1) := dk_42 (dk_at dksX33_below_2 11 rfl rfl)
theorem dX33_below_58 : decode cX33_below 58 = .ok (.iload_n 1, 1) := dk_27 (dk_at dksX33_below_2 12 rfl rfl)
theorem dX33_below_59 : decode cX33_below 59 = .ok (.putfield 42, 3) := dk_181 0 42 (dk_at dksX33_below_2 13 rfl rfl)
theorem dX33_below_62 : decode cX33_below 62 = .ok (.aload_n 0, 1) := dk_42 (dk_at dksX33_below_2 16 rfl rfl)
theorem dX33_below_63 : decode cX33_below 63 = .ok (.iconst 1, 1) := dk_4 (dk_at dksX33_below_2 17 rfl rfl)
theorem dX33_below_64 : decode cX33_below 64 = .ok (.putfield 32, 3) := dk_181 0 32 (dk_at dksX33_below_2 18 rfl rfl)
theorem dX33_below_67 : decode cX33_below 67 = .ok (.return_, 1) := dk_177 (dk_at dksX33_below_2 21 rfl rfl)
abbrev cX33_above : ByteArray := prog_30_method_3_code
def yX33_above : MethodName := ⟨RX33, "above", "(IZ)V"⟩
def dkwX33_above_2 : List UInt8 := [167, 0, 8, 3, 167, 0, 4, 28, 181, 0, 39, 42, 27, 181, 0, 35, 42, 4, 181, 0, 29, 177]
abbrev dktX33_above_2 : List UInt8 := dkwX33_above_2 ++ []
def dkwX33_above_1 : List UInt8 := [29, 156, 0, 4, 177, 42, 29, 154, 0, 22, 42, 180, 0, 39, 154, 0, 7, 28, 153, 0, 7, 4]
abbrev dktX33_above_1 : List UInt8 := dkwX33_above_1 ++ dktX33_above_2
def dkwX33_above_0 : List UInt8 := [42, 180, 0, 29, 153, 0, 18, 42, 180, 0, 21, 27, 42, 180, 0, 35, 182, 0, 48, 167, 0, 4, 4, 62]
abbrev dktX33_above_0 : List UInt8 := dkwX33_above_0 ++ dktX33_above_1
theorem dksX33_above_0 : cX33_above.data.toList.drop 0 = dktX33_above_0 := by decide +kernel
theorem dksX33_above_1 : cX33_above.data.toList.drop 24 = dktX33_above_1 := dk_seg dksX33_above_0 24 rfl rfl
theorem dksX33_above_2 : cX33_above.data.toList.drop 46 = dktX33_above_2 := dk_seg dksX33_above_1 22 rfl rfl
theorem dX33_above_0 : decode cX33_above 0 = .ok (.aload_n 0, 1) := dk_42 (dk_at dksX33_above_0 0 rfl rfl)
theorem dX33_above_1 : decode cX33_above 1 = .ok (.getfield 29, 3) := dk_180 0 29 (dk_at dksX33_above_0 1 rfl rfl)
theorem dX33_above_4 : decode cX33_above 4 = .ok (.ifCond .eq 18, 3) := dk_153 0 18 (dk_at dksX33_above_0 4 rfl rfl)
theorem dX33_above_7 : decode cX33_above 7 = .ok (.aload_n 0, 1) := dk_42 (dk_at dksX33_above_0 7 rfl rfl)
theorem dX33_above_8 : decode cX33_above 8 = .ok (.getfield 21, 3) := dk_180 0 21 (dk_at dksX33_above_0 8 rfl rfl)
theorem dX33_above_11 : decode cX33_above 11 = .ok (.iload_n 1, 1) := dk_27 (dk_at dksX33_above_0 11 rfl rfl)
theorem dX33_above_12 : decode cX33_above 12 = .ok (.aload_n 0, 1) := dk_42 (dk_at dksX33_above_0 12 rfl rfl)
theorem dX33_above_13 : decode cX33_above 13 = .ok (.getfield 35, 3) := dk_180 0 35 (dk_at dksX33_above_0 13 rfl rfl)
theorem dX33_above_16 : decode cX33_above 16 = .ok (.invokevirtual 48, 3) := dk_182 0 48 (dk_at dksX33_above_0 16 rfl rfl)
theorem dX33_above_19 : decode cX33_above 19 = .ok (.goto 4, 3) := dk_167 0 4 (dk_at dksX33_above_0 19 rfl rfl)
theorem dX33_above_22 : decode cX33_above 22 = .ok (.iconst 1, 1) := dk_4 (dk_at dksX33_above_0 22 rfl rfl)
theorem dX33_above_23 : decode cX33_above 23 = .ok (.istore_n 3, 1) := dk_62 (dk_at dksX33_above_0 23 rfl rfl)
theorem dX33_above_24 : decode cX33_above 24 = .ok (.iload_n 3, 1) := dk_29 (dk_at dksX33_above_1 0 rfl rfl)
theorem dX33_above_25 : decode cX33_above 25 = .ok (.ifCond .ge 4, 3) := dk_156 0 4 (dk_at dksX33_above_1 1 rfl rfl)
theorem dX33_above_28 : decode cX33_above 28 = .ok (.return_, 1) := dk_177 (dk_at dksX33_above_1 4 rfl rfl)
theorem dX33_above_29 : decode cX33_above 29 = .ok (.aload_n 0, 1) := dk_42 (dk_at dksX33_above_1 5 rfl rfl)
theorem dX33_above_30 : decode cX33_above 30 = .ok (.iload_n 3, 1) := dk_29 (dk_at dksX33_above_1 6 rfl rfl)
theorem dX33_above_31 : decode cX33_above 31 = .ok (.ifCond .ne 22, 3) := dk_154 0 22 (dk_at dksX33_above_1 7 rfl rfl)
theorem dX33_above_34 : decode cX33_above 34 = .ok (.aload_n 0, 1) := dk_42 (dk_at dksX33_above_1 10 rfl rfl)
theorem dX33_above_35 : decode cX33_above 35 = .ok (.getfield 39, 3) := dk_180 0 39 (dk_at dksX33_above_1 11 rfl rfl)
theorem dX33_above_38 : decode cX33_above 38 = .ok (.ifCond .ne 7, 3) := dk_154 0 7 (dk_at dksX33_above_1 14 rfl rfl)
theorem dX33_above_41 : decode cX33_above 41 = .ok (.iload_n 2, 1) := dk_28 (dk_at dksX33_above_1 17 rfl rfl)
theorem dX33_above_42 : decode cX33_above 42 = .ok (.ifCond .eq 7, 3) := dk_153 0 7 (dk_at dksX33_above_1 18 rfl rfl)
theorem dX33_above_45 : decode cX33_above 45 = .ok (.iconst 1, 1) := dk_4 (dk_at dksX33_above_1 21 rfl rfl)
theorem dX33_above_46 : decode cX33_above 46 = .ok (.goto 8, 3) := dk_167 0 8 (dk_at dksX33_above_2 0 rfl rfl)
theorem dX33_above_49 : decode cX33_above 49 = .ok (.iconst 0, 1) := dk_3 (dk_at dksX33_above_2 3 rfl rfl)
theorem dX33_above_50 : decode cX33_above 50 = .ok (.goto 4, 3) := dk_167 0 4 (dk_at dksX33_above_2 4 rfl rfl)
theorem dX33_above_53 : decode cX33_above 53 = .ok (.iload_n 2, 1) := dk_28 (dk_at dksX33_above_2 7 rfl rfl)
theorem dX33_above_54 : decode cX33_above 54 = .ok (.putfield 39, 3) := dk_181 0 39 (dk_at dksX33_above_2 8 rfl rfl)
theorem dX33_above_57 : decode cX33_above 57 = .ok (.aload_n 0, 1) := dk_42 (dk_at dksX33_above_2 11 rfl rfl)
theorem dX33_above_58 : decode cX33_above 58 = .ok (.iload_n 1, 1) := dk_27 (dk_at dksX33_above_2 12 rfl rfl)
theorem dX33_above_59 : decode cX33_above 59 = .ok (.putfield 35, 3) := dk_181 0 35 (dk_at dksX33_above_2 13 rfl rfl)
theorem dX33_above_62 : decode cX33_above 62 = .ok (.aload_n 0, 1) := dk_42 (dk_at dksX33_above_2 16 rfl rfl)
theorem dX33_above_63 : decode cX33_above 63 = .ok (.iconst 1, 1) := dk_4 (dk_at dksX33_above_2 17 rfl rfl)
theorem dX33_above_64 : decode cX33_above 64 = .ok (.putfield 29, 3) := dk_181 0 29 (dk_at dksX33_above_2 18 rfl rfl)
theorem dX33_above_67 : decode cX33_above 67 = .ok (.return_, 1) := dk_177 (dk_at dksX33_above_2 21 rfl rfl)
abbrev cX33_before : ByteArray := prog_30_method_6_code
def yX33_before : MethodName := ⟨RX33, "before", "(I)V"⟩
def dkwX33_before_0 : List UInt8 := [42, 180, 0, 25, 153, 0, 12, 42, 27, 4, 182, 0, 56, 167, 0, 9, 42, 27, 4, 182, 0, 52, 177]
abbrev dktX33_before_0 : List UInt8 := dkwX33_before_0 ++ []
theorem dksX33_before_0 : cX33_before.data.toList.drop 0 = dktX33_before_0 := by decide +kernel
theorem dX33_before_0 : decode cX33_before 0 = .ok (.aload_n 0, 1) := dk_42 (dk_at dksX33_before_0 0 rfl rfl)
theorem dX33_before_1 : decode cX33_before 1 = .ok (.getfield 25, 3) := dk_180 0 25 (dk_at dksX33_before_0 1 rfl rfl)
theorem dX33_before_4 : decode cX33_before 4 = .ok (.ifCond .eq 12, 3) := dk_153 0 12 (dk_at dksX33_before_0 4 rfl rfl)
theorem dX33_before_7 : decode cX33_before 7 = .ok (.aload_n 0, 1) := dk_42 (dk_at dksX33_before_0 7 rfl rfl)
theorem dX33_before_8 : decode cX33_before 8 = .ok (.iload_n 1, 1) := dk_27 (dk_at dksX33_before_0 8 rfl rfl)
theorem dX33_before_9 : decode cX33_before 9 = .ok (.iconst 1, 1) := dk_4 (dk_at dksX33_before_0 9 rfl rfl)
theorem dX33_before_10 : decode cX33_before 10 = .ok (.invokevirtual 56, 3) := dk_182 0 56 (dk_at dksX33_before_0 10 rfl rfl)
theorem dX33_before_13 : decode cX33_before 13 = .ok (.goto 9, 3) := dk_167 0 9 (dk_at dksX33_before_0 13 rfl rfl)
theorem dX33_before_16 : decode cX33_before 16 = .ok (.aload_n 0, 1) := dk_42 (dk_at dksX33_before_0 16 rfl rfl)
theorem dX33_before_17 : decode cX33_before 17 = .ok (.iload_n 1, 1) := dk_27 (dk_at dksX33_before_0 17 rfl rfl)
theorem dX33_before_18 : decode cX33_before 18 = .ok (.iconst 1, 1) := dk_4 (dk_at dksX33_before_0 18 rfl rfl)
theorem dX33_before_19 : decode cX33_before 19 = .ok (.invokevirtual 52, 3) := dk_182 0 52 (dk_at dksX33_before_0 19 rfl rfl)
theorem dX33_before_22 : decode cX33_before 22 = .ok (.return_, 1) := dk_177 (dk_at dksX33_before_0 22 rfl rfl)
abbrev cX33_changes : ByteArray := prog_30_method_24_code
def yX33_changes : MethodName := ⟨RX33, "changes", "()I"⟩
def dkwX33_changes_0 : List UInt8 := [42, 180, 0, 21, 180, 0, 120, 172]
abbrev dktX33_changes_0 : List UInt8 := dkwX33_changes_0 ++ []
theorem dksX33_changes_0 : cX33_changes.data.toList.drop 0 = dktX33_changes_0 := by decide +kernel
theorem dX33_changes_0 : decode cX33_changes 0 = .ok (.aload_n 0, 1) := dk_42 (dk_at dksX33_changes_0 0 rfl rfl)
theorem dX33_changes_1 : decode cX33_changes 1 = .ok (.getfield 21, 3) := dk_180 0 21 (dk_at dksX33_changes_0 1 rfl rfl)
theorem dX33_changes_4 : decode cX33_changes 4 = .ok (.getfield 120, 3) := dk_180 0 120 (dk_at dksX33_changes_0 4 rfl rfl)
theorem dX33_changes_7 : decode cX33_changes 7 = .ok (.ireturn, 1) := dk_172 (dk_at dksX33_changes_0 7 rfl rfl)
theorem q549 : (Jvm.Cond.initialized "LibraryDesk$SubThing") ∈ lw_all := lw_g (lw_at lw_m1 42 rfl) rfl
theorem q1563 : (Jvm.Cond.fieldLinkNest "LibraryDesk$SubThing" (120 : Nat) "LibraryDesk$TreeThing" "changes" "I" "LibraryDesk") ∈ lw_tbl := lw_at lw_m5 96 rfl
theorem q1778 : (Jvm.Cond.instantiable "LibraryDesk$SubThing" (11 : Nat)) ∈ lw_all := lw_g (lw_at lw_m6 71 rfl) rfl
theorem q1780 : (Jvm.Cond.instanceMethod ({ cls := "LibraryDesk$SubThing", name := "<init>", desc := "()V" } : Jvm.MethodName)) ∈ lw_all := lw_g (lw_at lw_m6 73 rfl) rfl
theorem q1781 : (Jvm.Cond.code ({ cls := "LibraryDesk$SubThing", name := "<init>", desc := "()V" } : Jvm.MethodName) prog_30_method_1_code (1 : Nat) (Option.none : Option Jvm.ClassFile.FieldType)) ∈ lw_all := lw_g (lw_at lw_m6 74 rfl) rfl
theorem q1782 : (Jvm.Cond.methodLinkNest "LibraryDesk$SubThing" (3 : Nat) ({ cls := "LibraryDesk$Maps", name := "<init>", desc := "(I)V" } : Jvm.MethodName) "LibraryDesk") ∈ lw_tbl := lw_at lw_m6 75 rfl
theorem q1783 : (Jvm.Cond.fieldLink "LibraryDesk$SubThing" (21 : Nat) "LibraryDesk$SubThing" "tree" "LLibraryDesk$TreeThing;") ∈ lw_all := lw_g (lw_at lw_m6 76 rfl) rfl
theorem q1786 : (Jvm.Cond.fieldLink "LibraryDesk$SubThing" (9 : Nat) "LibraryDesk$SubThing" "of" "LLibraryDesk$Maps;") ∈ lw_all := lw_g (lw_at lw_m6 79 rfl) rfl
theorem q1787 : (Jvm.Cond.fieldLink "LibraryDesk$SubThing" (25 : Nat) "LibraryDesk$SubThing" "turned" "Z") ∈ lw_all := lw_g (lw_at lw_m6 80 rfl) rfl
theorem q1790 : (Jvm.Cond.fieldLink "LibraryDesk$SubThing" (29 : Nat) "LibraryDesk$SubThing" "hasLow" "Z") ∈ lw_all := lw_g (lw_at lw_m6 83 rfl) rfl
theorem q1791 : (Jvm.Cond.fieldLink "LibraryDesk$SubThing" (35 : Nat) "LibraryDesk$SubThing" "low" "I") ∈ lw_all := lw_g (lw_at lw_m6 84 rfl) rfl
theorem q1792 : (Jvm.Cond.fieldLink "LibraryDesk$SubThing" (39 : Nat) "LibraryDesk$SubThing" "lowOut" "Z") ∈ lw_all := lw_g (lw_at lw_m6 85 rfl) rfl
theorem q1793 : (Jvm.Cond.fieldLink "LibraryDesk$SubThing" (32 : Nat) "LibraryDesk$SubThing" "hasHigh" "Z") ∈ lw_all := lw_g (lw_at lw_m6 86 rfl) rfl
theorem q1794 : (Jvm.Cond.fieldLink "LibraryDesk$SubThing" (42 : Nat) "LibraryDesk$SubThing" "high" "I") ∈ lw_all := lw_g (lw_at lw_m6 87 rfl) rfl
theorem q1795 : (Jvm.Cond.fieldLink "LibraryDesk$SubThing" (45 : Nat) "LibraryDesk$SubThing" "highOut" "Z") ∈ lw_all := lw_g (lw_at lw_m6 88 rfl) rfl
theorem q1796 : (Jvm.Cond.lays "LibraryDesk$SubThing" "LibraryDesk$SubThing" "tree" "LLibraryDesk$TreeThing;") ∈ lw_all := lw_g (lw_at lw_m6 89 rfl) rfl
theorem q1797 : (Jvm.Cond.soleField "LibraryDesk$SubThing" "tree") ∈ lw_all := lw_g (lw_at lw_m6 90 rfl) rfl
theorem q1798 : (Jvm.Cond.lays "LibraryDesk$SubThing" "LibraryDesk$SubThing" "of" "LLibraryDesk$Maps;") ∈ lw_all := lw_g (lw_at lw_m6 91 rfl) rfl
theorem q1799 : (Jvm.Cond.soleField "LibraryDesk$SubThing" "of") ∈ lw_all := lw_g (lw_at lw_m6 92 rfl) rfl
theorem q1800 : (Jvm.Cond.lays "LibraryDesk$SubThing" "LibraryDesk$SubThing" "turned" "Z") ∈ lw_all := lw_g (lw_at lw_m6 93 rfl) rfl
theorem q1801 : (Jvm.Cond.soleField "LibraryDesk$SubThing" "turned") ∈ lw_all := lw_g (lw_at lw_m6 94 rfl) rfl
theorem q1802 : (Jvm.Cond.lays "LibraryDesk$SubThing" "LibraryDesk$SubThing" "hasLow" "Z") ∈ lw_all := lw_g (lw_at lw_m6 95 rfl) rfl
theorem q1803 : (Jvm.Cond.soleField "LibraryDesk$SubThing" "hasLow") ∈ lw_all := lw_g (lw_at lw_m6 96 rfl) rfl
theorem q1804 : (Jvm.Cond.lays "LibraryDesk$SubThing" "LibraryDesk$SubThing" "low" "I") ∈ lw_all := lw_g (lw_at lw_m6 97 rfl) rfl
theorem q1805 : (Jvm.Cond.soleField "LibraryDesk$SubThing" "low") ∈ lw_all := lw_g (lw_at lw_m6 98 rfl) rfl
theorem q1806 : (Jvm.Cond.lays "LibraryDesk$SubThing" "LibraryDesk$SubThing" "lowOut" "Z") ∈ lw_all := lw_g (lw_at lw_m6 99 rfl) rfl
theorem q1807 : (Jvm.Cond.soleField "LibraryDesk$SubThing" "lowOut") ∈ lw_all := lw_g (lw_at lw_m6 100 rfl) rfl
theorem q1808 : (Jvm.Cond.lays "LibraryDesk$SubThing" "LibraryDesk$SubThing" "hasHigh" "Z") ∈ lw_all := lw_g (lw_at lw_m6 101 rfl) rfl
theorem q1809 : (Jvm.Cond.soleField "LibraryDesk$SubThing" "hasHigh") ∈ lw_all := lw_g (lw_at lw_m6 102 rfl) rfl
theorem q1810 : (Jvm.Cond.lays "LibraryDesk$SubThing" "LibraryDesk$SubThing" "high" "I") ∈ lw_all := lw_g (lw_at lw_m6 103 rfl) rfl
theorem q1811 : (Jvm.Cond.soleField "LibraryDesk$SubThing" "high") ∈ lw_all := lw_g (lw_at lw_m6 104 rfl) rfl
theorem q1812 : (Jvm.Cond.lays "LibraryDesk$SubThing" "LibraryDesk$SubThing" "highOut" "Z") ∈ lw_all := lw_g (lw_at lw_m6 105 rfl) rfl
theorem q1813 : (Jvm.Cond.soleField "LibraryDesk$SubThing" "highOut") ∈ lw_all := lw_g (lw_at lw_m6 106 rfl) rfl
theorem q1814 : (Jvm.Cond.laysFinal "LibraryDesk$SubThing" "LibraryDesk$Thing" "kind" "I") ∈ lw_all := lw_g (lw_at lw_m6 107 rfl) rfl
theorem q1815 : (Jvm.Cond.lays "LibraryDesk$SubThing" "LibraryDesk$Thing" "used" "Z") ∈ lw_all := lw_g (lw_at lw_m6 108 rfl) rfl
theorem q1816 : (Jvm.Cond.superclass "LibraryDesk$SubThing" "LibraryDesk$Maps") ∈ lw_all := lw_g (lw_at lw_m6 109 rfl) rfl
theorem q2320 : (Jvm.Cond.selects "LibraryDesk$SubThing" ({ cls := "LibraryDesk$Maps", name := "kind", desc := "()I" } : Jvm.MethodName) ({ cls := "LibraryDesk$Thing", name := "kind", desc := "()I" } : Jvm.MethodName)) ∈ lw_all := lw_g (lw_at lw_m8 133 rfl) rfl
theorem q2328 : (Jvm.Cond.selects "LibraryDesk$SubThing" ({ cls := "LibraryDesk$Maps", name := "put", desc := "(IIZZ)J" } : Jvm.MethodName) ({ cls := "LibraryDesk$Maps", name := "put", desc := "(IIZZ)J" } : Jvm.MethodName)) ∈ lw_all := lw_g (lw_at lw_m8 141 rfl) rfl
theorem q2350 : (Jvm.Cond.selects "LibraryDesk$SubThing" ({ cls := "LibraryDesk$Maps", name := "find", desc := "(I)I" } : Jvm.MethodName) ({ cls := "LibraryDesk$SubThing", name := "find", desc := "(I)I" } : Jvm.MethodName)) ∈ lw_all := lw_g (lw_at lw_m8 163 rfl) rfl
theorem q2351 : (Jvm.Cond.instanceMethod ({ cls := "LibraryDesk$SubThing", name := "find", desc := "(I)I" } : Jvm.MethodName)) ∈ lw_all := lw_g (lw_at lw_m8 164 rfl) rfl
theorem q2352 : (Jvm.Cond.code ({ cls := "LibraryDesk$SubThing", name := "find", desc := "(I)I" } : Jvm.MethodName) prog_30_method_13_code (2 : Nat) (Option.some Jvm.ClassFile.FieldType.int)) ∈ lw_all := lw_g (lw_at lw_m8 165 rfl) rfl
theorem q2353 : (Jvm.Cond.methodLink "LibraryDesk$SubThing" (87 : Nat) ({ cls := "LibraryDesk$TreeThing", name := "find", desc := "(I)I" } : Jvm.MethodName)) ∈ lw_all := lw_g (lw_at lw_m8 166 rfl) rfl
theorem q2362 : (Jvm.Cond.methodLink "LibraryDesk$SubThing" (74 : Nat) ({ cls := "LibraryDesk$SubThing", name := "if0", desc := "(I)I" } : Jvm.MethodName)) ∈ lw_all := lw_g (lw_at lw_m8 175 rfl) rfl
theorem q2363 : (Jvm.Cond.privateMethod ({ cls := "LibraryDesk$SubThing", name := "if0", desc := "(I)I" } : Jvm.MethodName)) ∈ lw_tbl := lw_at lw_m8 176 rfl
theorem q2364 : (Jvm.Cond.instanceMethod ({ cls := "LibraryDesk$SubThing", name := "if0", desc := "(I)I" } : Jvm.MethodName)) ∈ lw_all := lw_g (lw_at lw_m8 177 rfl) rfl
theorem q2365 : (Jvm.Cond.code ({ cls := "LibraryDesk$SubThing", name := "if0", desc := "(I)I" } : Jvm.MethodName) prog_30_method_9_code (2 : Nat) (Option.some Jvm.ClassFile.FieldType.int)) ∈ lw_all := lw_g (lw_at lw_m8 178 rfl) rfl
theorem q2366 : (Jvm.Cond.methodLink "LibraryDesk$SubThing" (59 : Nat) ({ cls := "LibraryDesk$TreeThing", name := "key", desc := "(I)I" } : Jvm.MethodName)) ∈ lw_all := lw_g (lw_at lw_m8 179 rfl) rfl
theorem q2370 : (Jvm.Cond.methodLink "LibraryDesk$SubThing" (63 : Nat) ({ cls := "LibraryDesk$SubThing", name := "holds", desc := "(I)Z" } : Jvm.MethodName)) ∈ lw_all := lw_g (lw_at lw_m8 183 rfl) rfl
theorem q2371 : (Jvm.Cond.privateMethod ({ cls := "LibraryDesk$SubThing", name := "holds", desc := "(I)Z" } : Jvm.MethodName)) ∈ lw_tbl := lw_at lw_m8 184 rfl
theorem q2372 : (Jvm.Cond.instanceMethod ({ cls := "LibraryDesk$SubThing", name := "holds", desc := "(I)Z" } : Jvm.MethodName)) ∈ lw_all := lw_g (lw_at lw_m8 185 rfl) rfl
theorem q2373 : (Jvm.Cond.code ({ cls := "LibraryDesk$SubThing", name := "holds", desc := "(I)Z" } : Jvm.MethodName) prog_30_method_8_code (4 : Nat) (Option.some Jvm.ClassFile.FieldType.boolean)) ∈ lw_all := lw_g (lw_at lw_m8 186 rfl) rfl
theorem q2374 : (Jvm.Cond.methodLink "LibraryDesk$SubThing" (48 : Nat) ({ cls := "LibraryDesk$TreeThing", name := "compare", desc := "(II)I" } : Jvm.MethodName)) ∈ lw_all := lw_g (lw_at lw_m8 187 rfl) rfl
theorem q2381 : (Jvm.Cond.selects "LibraryDesk$SubThing" ({ cls := "LibraryDesk$Maps", name := "found", desc := "(I)J" } : Jvm.MethodName) ({ cls := "LibraryDesk$Maps", name := "found", desc := "(I)J" } : Jvm.MethodName)) ∈ lw_all := lw_g (lw_at lw_m8 194 rfl) rfl
theorem q2394 : (Jvm.Cond.selects "LibraryDesk$SubThing" ({ cls := "LibraryDesk$Maps", name := "value", desc := "(I)I" } : Jvm.MethodName) ({ cls := "LibraryDesk$SubThing", name := "value", desc := "(I)I" } : Jvm.MethodName)) ∈ lw_all := lw_g (lw_at lw_m8 207 rfl) rfl
theorem q2395 : (Jvm.Cond.instanceMethod ({ cls := "LibraryDesk$SubThing", name := "value", desc := "(I)I" } : Jvm.MethodName)) ∈ lw_all := lw_g (lw_at lw_m8 208 rfl) rfl
theorem q2396 : (Jvm.Cond.code ({ cls := "LibraryDesk$SubThing", name := "value", desc := "(I)I" } : Jvm.MethodName) prog_30_method_18_code (2 : Nat) (Option.some Jvm.ClassFile.FieldType.int)) ∈ lw_all := lw_g (lw_at lw_m8 209 rfl) rfl
theorem q2397 : (Jvm.Cond.methodLink "LibraryDesk$SubThing" (100 : Nat) ({ cls := "LibraryDesk$TreeThing", name := "value", desc := "(I)I" } : Jvm.MethodName)) ∈ lw_all := lw_g (lw_at lw_m8 210 rfl) rfl
theorem q2411 : (Jvm.Cond.selects "LibraryDesk$SubThing" ({ cls := "LibraryDesk$Maps", name := "setValue", desc := "(II)V" } : Jvm.MethodName) ({ cls := "LibraryDesk$SubThing", name := "setValue", desc := "(II)V" } : Jvm.MethodName)) ∈ lw_all := lw_g (lw_at lw_m8 224 rfl) rfl
theorem q2412 : (Jvm.Cond.instanceMethod ({ cls := "LibraryDesk$SubThing", name := "setValue", desc := "(II)V" } : Jvm.MethodName)) ∈ lw_all := lw_g (lw_at lw_m8 225 rfl) rfl
theorem q2413 : (Jvm.Cond.code ({ cls := "LibraryDesk$SubThing", name := "setValue", desc := "(II)V" } : Jvm.MethodName) prog_30_method_19_code (3 : Nat) (Option.none : Option Jvm.ClassFile.FieldType)) ∈ lw_all := lw_g (lw_at lw_m8 226 rfl) rfl
theorem q2414 : (Jvm.Cond.methodLink "LibraryDesk$SubThing" (103 : Nat) ({ cls := "LibraryDesk$TreeThing", name := "setValue", desc := "(II)V" } : Jvm.MethodName)) ∈ lw_all := lw_g (lw_at lw_m8 227 rfl) rfl
theorem q2434 : (Jvm.Cond.selects "LibraryDesk$SubThing" ({ cls := "LibraryDesk$Maps", name := "use", desc := "(I)V" } : Jvm.MethodName) ({ cls := "LibraryDesk$Maps", name := "use", desc := "(I)V" } : Jvm.MethodName)) ∈ lw_all := lw_g (lw_at lw_m9 7 rfl) rfl
theorem q2448 : (Jvm.Cond.selects "LibraryDesk$SubThing" ({ cls := "LibraryDesk$Maps", name := "checkRoom", desc := "(I)V" } : Jvm.MethodName) ({ cls := "LibraryDesk$SubThing", name := "checkRoom", desc := "(I)V" } : Jvm.MethodName)) ∈ lw_all := lw_g (lw_at lw_m9 21 rfl) rfl
theorem q2449 : (Jvm.Cond.instanceMethod ({ cls := "LibraryDesk$SubThing", name := "checkRoom", desc := "(I)V" } : Jvm.MethodName)) ∈ lw_all := lw_g (lw_at lw_m9 22 rfl) rfl
theorem q2450 : (Jvm.Cond.code ({ cls := "LibraryDesk$SubThing", name := "checkRoom", desc := "(I)V" } : Jvm.MethodName) prog_30_method_20_code (2 : Nat) (Option.none : Option Jvm.ClassFile.FieldType)) ∈ lw_all := lw_g (lw_at lw_m9 23 rfl) rfl
theorem q2451 : (Jvm.Cond.methodLinkNest "LibraryDesk$SubThing" (107 : Nat) ({ cls := "LibraryDesk", name := "good", desc := "(Z)V" } : Jvm.MethodName) "LibraryDesk") ∈ lw_tbl := lw_at lw_m9 24 rfl
theorem q2452 : (Jvm.Cond.methodLink "LibraryDesk$SubThing" (111 : Nat) ({ cls := "LibraryDesk$TreeThing", name := "checkRoom", desc := "(I)V" } : Jvm.MethodName)) ∈ lw_all := lw_g (lw_at lw_m9 25 rfl) rfl
theorem q2492 : (Jvm.Cond.selects "LibraryDesk$SubThing" ({ cls := "LibraryDesk$Maps", name := "add", desc := "(II)V" } : Jvm.MethodName) ({ cls := "LibraryDesk$SubThing", name := "add", desc := "(II)V" } : Jvm.MethodName)) ∈ lw_all := lw_g (lw_at lw_m9 65 rfl) rfl
theorem q2493 : (Jvm.Cond.instanceMethod ({ cls := "LibraryDesk$SubThing", name := "add", desc := "(II)V" } : Jvm.MethodName)) ∈ lw_all := lw_g (lw_at lw_m9 66 rfl) rfl
theorem q2494 : (Jvm.Cond.code ({ cls := "LibraryDesk$SubThing", name := "add", desc := "(II)V" } : Jvm.MethodName) prog_30_method_21_code (3 : Nat) (Option.none : Option Jvm.ClassFile.FieldType)) ∈ lw_all := lw_g (lw_at lw_m9 67 rfl) rfl
theorem q2495 : (Jvm.Cond.methodLink "LibraryDesk$SubThing" (114 : Nat) ({ cls := "LibraryDesk$TreeThing", name := "add", desc := "(II)V" } : Jvm.MethodName)) ∈ lw_all := lw_g (lw_at lw_m9 68 rfl) rfl
theorem q2522 : (Jvm.Cond.selects "LibraryDesk$SubThing" ({ cls := "LibraryDesk$Maps", name := "get", desc := "(I)J" } : Jvm.MethodName) ({ cls := "LibraryDesk$Maps", name := "get", desc := "(I)J" } : Jvm.MethodName)) ∈ lw_all := lw_g (lw_at lw_m9 95 rfl) rfl
theorem q2530 : (Jvm.Cond.selects "LibraryDesk$SubThing" ({ cls := "LibraryDesk$Maps", name := "drop", desc := "(I)J" } : Jvm.MethodName) ({ cls := "LibraryDesk$Maps", name := "drop", desc := "(I)J" } : Jvm.MethodName)) ∈ lw_all := lw_g (lw_at lw_m9 103 rfl) rfl
theorem q2541 : (Jvm.Cond.selects "LibraryDesk$SubThing" ({ cls := "LibraryDesk$Maps", name := "remove", desc := "(I)V" } : Jvm.MethodName) ({ cls := "LibraryDesk$SubThing", name := "remove", desc := "(I)V" } : Jvm.MethodName)) ∈ lw_all := lw_g (lw_at lw_m9 114 rfl) rfl
theorem q2542 : (Jvm.Cond.instanceMethod ({ cls := "LibraryDesk$SubThing", name := "remove", desc := "(I)V" } : Jvm.MethodName)) ∈ lw_all := lw_g (lw_at lw_m9 115 rfl) rfl
theorem q2543 : (Jvm.Cond.code ({ cls := "LibraryDesk$SubThing", name := "remove", desc := "(I)V" } : Jvm.MethodName) prog_30_method_22_code (2 : Nat) (Option.none : Option Jvm.ClassFile.FieldType)) ∈ lw_all := lw_g (lw_at lw_m9 116 rfl) rfl
theorem q2544 : (Jvm.Cond.methodLink "LibraryDesk$SubThing" (117 : Nat) ({ cls := "LibraryDesk$TreeThing", name := "remove", desc := "(I)V" } : Jvm.MethodName)) ∈ lw_all := lw_g (lw_at lw_m9 117 rfl) rfl
theorem q2572 : (Jvm.Cond.selects "LibraryDesk$SubThing" ({ cls := "LibraryDesk$Maps", name := "size", desc := "()I" } : Jvm.MethodName) ({ cls := "LibraryDesk$SubThing", name := "size", desc := "()I" } : Jvm.MethodName)) ∈ lw_all := lw_g (lw_at lw_m9 145 rfl) rfl
theorem q2573 : (Jvm.Cond.instanceMethod ({ cls := "LibraryDesk$SubThing", name := "size", desc := "()I" } : Jvm.MethodName)) ∈ lw_all := lw_g (lw_at lw_m9 146 rfl) rfl
theorem q2574 : (Jvm.Cond.code ({ cls := "LibraryDesk$SubThing", name := "size", desc := "()I" } : Jvm.MethodName) prog_30_method_12_code (3 : Nat) (Option.some Jvm.ClassFile.FieldType.int)) ∈ lw_all := lw_g (lw_at lw_m9 147 rfl) rfl
theorem q2575 : (Jvm.Cond.methodLink "LibraryDesk$SubThing" (83 : Nat) ({ cls := "LibraryDesk$SubThing", name := "first", desc := "()I" } : Jvm.MethodName)) ∈ lw_all := lw_g (lw_at lw_m9 148 rfl) rfl
theorem q2576 : (Jvm.Cond.instanceMethod ({ cls := "LibraryDesk$SubThing", name := "first", desc := "()I" } : Jvm.MethodName)) ∈ lw_all := lw_g (lw_at lw_m9 149 rfl) rfl
theorem q2577 : (Jvm.Cond.selects "LibraryDesk$SubThing" ({ cls := "LibraryDesk$SubThing", name := "first", desc := "()I" } : Jvm.MethodName) ({ cls := "LibraryDesk$SubThing", name := "first", desc := "()I" } : Jvm.MethodName)) ∈ lw_all := lw_g (lw_at lw_m9 150 rfl) rfl
theorem q2578 : (Jvm.Cond.code ({ cls := "LibraryDesk$SubThing", name := "first", desc := "()I" } : Jvm.MethodName) prog_30_method_14_code (1 : Nat) (Option.some Jvm.ClassFile.FieldType.int)) ∈ lw_all := lw_g (lw_at lw_m9 151 rfl) rfl
theorem q2579 : (Jvm.Cond.methodLink "LibraryDesk$SubThing" (90 : Nat) ({ cls := "LibraryDesk$SubThing", name := "highest", desc := "()I" } : Jvm.MethodName)) ∈ lw_all := lw_g (lw_at lw_m9 152 rfl) rfl
theorem q2580 : (Jvm.Cond.privateMethod ({ cls := "LibraryDesk$SubThing", name := "highest", desc := "()I" } : Jvm.MethodName)) ∈ lw_tbl := lw_at lw_m9 153 rfl
theorem q2581 : (Jvm.Cond.instanceMethod ({ cls := "LibraryDesk$SubThing", name := "highest", desc := "()I" } : Jvm.MethodName)) ∈ lw_all := lw_g (lw_at lw_m9 154 rfl) rfl
theorem q2582 : (Jvm.Cond.code ({ cls := "LibraryDesk$SubThing", name := "highest", desc := "()I" } : Jvm.MethodName) prog_30_method_11_code (1 : Nat) (Option.some Jvm.ClassFile.FieldType.int)) ∈ lw_all := lw_g (lw_at lw_m9 155 rfl) rfl
theorem q2583 : (Jvm.Cond.methodLink "LibraryDesk$SubThing" (77 : Nat) ({ cls := "LibraryDesk$TreeThing", name := "upTo", desc := "(IZ)I" } : Jvm.MethodName)) ∈ lw_all := lw_g (lw_at lw_m9 156 rfl) rfl
theorem q2587 : (Jvm.Cond.methodLink "LibraryDesk$SubThing" (80 : Nat) ({ cls := "LibraryDesk$TreeThing", name := "last", desc := "()I" } : Jvm.MethodName)) ∈ lw_all := lw_g (lw_at lw_m9 160 rfl) rfl
theorem q2598 : (Jvm.Cond.methodLink "LibraryDesk$SubThing" (93 : Nat) ({ cls := "LibraryDesk$SubThing", name := "lowest", desc := "()I" } : Jvm.MethodName)) ∈ lw_all := lw_g (lw_at lw_m9 171 rfl) rfl
theorem q2599 : (Jvm.Cond.privateMethod ({ cls := "LibraryDesk$SubThing", name := "lowest", desc := "()I" } : Jvm.MethodName)) ∈ lw_tbl := lw_at lw_m9 172 rfl
theorem q2600 : (Jvm.Cond.instanceMethod ({ cls := "LibraryDesk$SubThing", name := "lowest", desc := "()I" } : Jvm.MethodName)) ∈ lw_all := lw_g (lw_at lw_m9 173 rfl) rfl
theorem q2601 : (Jvm.Cond.code ({ cls := "LibraryDesk$SubThing", name := "lowest", desc := "()I" } : Jvm.MethodName) prog_30_method_10_code (1 : Nat) (Option.some Jvm.ClassFile.FieldType.int)) ∈ lw_all := lw_g (lw_at lw_m9 174 rfl) rfl
theorem q2602 : (Jvm.Cond.methodLink "LibraryDesk$SubThing" (67 : Nat) ({ cls := "LibraryDesk$TreeThing", name := "from", desc := "(IZ)I" } : Jvm.MethodName)) ∈ lw_all := lw_g (lw_at lw_m9 175 rfl) rfl
theorem q2606 : (Jvm.Cond.methodLink "LibraryDesk$SubThing" (71 : Nat) ({ cls := "LibraryDesk$TreeThing", name := "first", desc := "()I" } : Jvm.MethodName)) ∈ lw_all := lw_g (lw_at lw_m9 179 rfl) rfl
theorem q2610 : (Jvm.Cond.methodLink "LibraryDesk$SubThing" (84 : Nat) ({ cls := "LibraryDesk$SubThing", name := "next", desc := "(I)I" } : Jvm.MethodName)) ∈ lw_all := lw_g (lw_at lw_m9 183 rfl) rfl
theorem q2611 : (Jvm.Cond.instanceMethod ({ cls := "LibraryDesk$SubThing", name := "next", desc := "(I)I" } : Jvm.MethodName)) ∈ lw_all := lw_g (lw_at lw_m9 184 rfl) rfl
theorem q2612 : (Jvm.Cond.selects "LibraryDesk$SubThing" ({ cls := "LibraryDesk$SubThing", name := "next", desc := "(I)I" } : Jvm.MethodName) ({ cls := "LibraryDesk$SubThing", name := "next", desc := "(I)I" } : Jvm.MethodName)) ∈ lw_all := lw_g (lw_at lw_m9 185 rfl) rfl
theorem q2613 : (Jvm.Cond.code ({ cls := "LibraryDesk$SubThing", name := "next", desc := "(I)I" } : Jvm.MethodName) prog_30_method_16_code (2 : Nat) (Option.some Jvm.ClassFile.FieldType.int)) ∈ lw_all := lw_g (lw_at lw_m9 186 rfl) rfl
theorem q2614 : (Jvm.Cond.methodLink "LibraryDesk$SubThing" (96 : Nat) ({ cls := "LibraryDesk$TreeThing", name := "before", desc := "(I)I" } : Jvm.MethodName)) ∈ lw_all := lw_g (lw_at lw_m9 187 rfl) rfl
theorem q2618 : (Jvm.Cond.methodLink "LibraryDesk$SubThing" (99 : Nat) ({ cls := "LibraryDesk$TreeThing", name := "next", desc := "(I)I" } : Jvm.MethodName)) ∈ lw_all := lw_g (lw_at lw_m9 191 rfl) rfl
theorem q2634 : (Jvm.Cond.selects "LibraryDesk$SubThing" ({ cls := "LibraryDesk$Maps", name := "clea\x72", desc := "()V" } : Jvm.MethodName) ({ cls := "LibraryDesk$SubThing", name := "clea\x72", desc := "()V" } : Jvm.MethodName)) ∈ lw_all := lw_g (lw_at lw_m9 207 rfl) rfl
theorem q2635 : (Jvm.Cond.instanceMethod ({ cls := "LibraryDesk$SubThing", name := "clea\x72", desc := "()V" } : Jvm.MethodName)) ∈ lw_all := lw_g (lw_at lw_m9 208 rfl) rfl
theorem q2636 : (Jvm.Cond.code ({ cls := "LibraryDesk$SubThing", name := "clea\x72", desc := "()V" } : Jvm.MethodName) prog_30_method_23_code (3 : Nat) (Option.none : Option Jvm.ClassFile.FieldType)) ∈ lw_all := lw_g (lw_at lw_m9 209 rfl) rfl
theorem q2645 : (Jvm.Cond.selects "LibraryDesk$SubThing" ({ cls := "LibraryDesk$Maps", name := "more", desc := "(II)J" } : Jvm.MethodName) ({ cls := "LibraryDesk$Maps", name := "more", desc := "(II)J" } : Jvm.MethodName)) ∈ lw_all := lw_g (lw_at lw_m9 218 rfl) rfl
theorem q2653 : (Jvm.Cond.selects "LibraryDesk$SubThing" ({ cls := "LibraryDesk$Maps", name := "countValue", desc := "(I)I" } : Jvm.MethodName) ({ cls := "LibraryDesk$Maps", name := "countValue", desc := "(I)I" } : Jvm.MethodName)) ∈ lw_all := lw_g (lw_at lw_m9 226 rfl) rfl
theorem q2669 : (Jvm.Cond.selects "LibraryDesk$SubThing" ({ cls := "LibraryDesk$Maps", name := "first", desc := "()I" } : Jvm.MethodName) ({ cls := "LibraryDesk$SubThing", name := "first", desc := "()I" } : Jvm.MethodName)) ∈ lw_all := lw_g (lw_at lw_m10 2 rfl) rfl
theorem q2680 : (Jvm.Cond.selects "LibraryDesk$SubThing" ({ cls := "LibraryDesk$Maps", name := "next", desc := "(I)I" } : Jvm.MethodName) ({ cls := "LibraryDesk$SubThing", name := "next", desc := "(I)I" } : Jvm.MethodName)) ∈ lw_all := lw_g (lw_at lw_m10 13 rfl) rfl
theorem q2687 : (Jvm.Cond.selects "LibraryDesk$SubThing" ({ cls := "LibraryDesk$Maps", name := "end", desc := "(ZZ)J" } : Jvm.MethodName) ({ cls := "LibraryDesk$Maps", name := "end", desc := "(ZZ)J" } : Jvm.MethodName)) ∈ lw_all := lw_g (lw_at lw_m10 20 rfl) rfl
theorem q2701 : (Jvm.Cond.selects "LibraryDesk$SubThing" ({ cls := "LibraryDesk$Maps", name := "last", desc := "()I" } : Jvm.MethodName) ({ cls := "LibraryDesk$SubThing", name := "last", desc := "()I" } : Jvm.MethodName)) ∈ lw_all := lw_g (lw_at lw_m10 34 rfl) rfl
theorem q2702 : (Jvm.Cond.instanceMethod ({ cls := "LibraryDesk$SubThing", name := "last", desc := "()I" } : Jvm.MethodName)) ∈ lw_all := lw_g (lw_at lw_m10 35 rfl) rfl
theorem q2703 : (Jvm.Cond.code ({ cls := "LibraryDesk$SubThing", name := "last", desc := "()I" } : Jvm.MethodName) prog_30_method_15_code (1 : Nat) (Option.some Jvm.ClassFile.FieldType.int)) ∈ lw_all := lw_g (lw_at lw_m10 36 rfl) rfl
theorem q2715 : (Jvm.Cond.selects "LibraryDesk$SubThing" ({ cls := "LibraryDesk$Maps", name := "key", desc := "(I)I" } : Jvm.MethodName) ({ cls := "LibraryDesk$SubThing", name := "key", desc := "(I)I" } : Jvm.MethodName)) ∈ lw_all := lw_g (lw_at lw_m10 48 rfl) rfl
theorem q2716 : (Jvm.Cond.instanceMethod ({ cls := "LibraryDesk$SubThing", name := "key", desc := "(I)I" } : Jvm.MethodName)) ∈ lw_all := lw_g (lw_at lw_m10 49 rfl) rfl
theorem q2717 : (Jvm.Cond.code ({ cls := "LibraryDesk$SubThing", name := "key", desc := "(I)I" } : Jvm.MethodName) prog_30_method_17_code (2 : Nat) (Option.some Jvm.ClassFile.FieldType.int)) ∈ lw_all := lw_g (lw_at lw_m10 50 rfl) rfl
theorem q2724 : (Jvm.Cond.selects "LibraryDesk$SubThing" ({ cls := "LibraryDesk$Maps", name := "hash", desc := "()I" } : Jvm.MethodName) ({ cls := "LibraryDesk$Maps", name := "hash", desc := "()I" } : Jvm.MethodName)) ∈ lw_all := lw_g (lw_at lw_m10 57 rfl) rfl
theorem q2732 : (Jvm.Cond.selects "LibraryDesk$SubThing" ({ cls := "LibraryDesk$Maps", name := "same", desc := "(LLibraryDesk$Maps;)I" } : Jvm.MethodName) ({ cls := "LibraryDesk$Maps", name := "same", desc := "(LLibraryDesk$Maps;)I" } : Jvm.MethodName)) ∈ lw_all := lw_g (lw_at lw_m10 65 rfl) rfl
theorem q2756 : (Jvm.Cond.privateMethod ({ cls := "LibraryDesk$SubThing", name := "compare", desc := "(II)I" } : Jvm.MethodName)) ∈ lw_tbl := lw_at lw_m10 89 rfl
theorem q2757 : (Jvm.Cond.instanceMethod ({ cls := "LibraryDesk$SubThing", name := "compare", desc := "(II)I" } : Jvm.MethodName)) ∈ lw_all := lw_g (lw_at lw_m10 90 rfl) rfl
theorem q2758 : (Jvm.Cond.code ({ cls := "LibraryDesk$SubThing", name := "compare", desc := "(II)I" } : Jvm.MethodName) prog_30_method_7_code (3 : Nat) (Option.some Jvm.ClassFile.FieldType.int)) ∈ lw_all := lw_g (lw_at lw_m10 91 rfl) rfl
theorem q2799 : (Jvm.Cond.privateMethod ({ cls := "LibraryDesk$SubThing", name := "begin", desc := "(LLibraryDesk$Maps;)V" } : Jvm.MethodName)) ∈ lw_tbl := lw_at lw_m10 132 rfl
theorem q2800 : (Jvm.Cond.instanceMethod ({ cls := "LibraryDesk$SubThing", name := "begin", desc := "(LLibraryDesk$Maps;)V" } : Jvm.MethodName)) ∈ lw_all := lw_g (lw_at lw_m10 133 rfl) rfl
theorem q2801 : (Jvm.Cond.code ({ cls := "LibraryDesk$SubThing", name := "begin", desc := "(LLibraryDesk$Maps;)V" } : Jvm.MethodName) prog_30_method_2_code (3 : Nat) (Option.none : Option Jvm.ClassFile.FieldType)) ∈ lw_all := lw_g (lw_at lw_m10 134 rfl) rfl
theorem q2802 : (Jvm.Cond.methodLink "LibraryDesk$SubThing" (15 : Nat) ({ cls := "LibraryDesk$Maps", name := "kind", desc := "()I" } : Jvm.MethodName)) ∈ lw_all := lw_g (lw_at lw_m10 135 rfl) rfl
theorem q2803 : (Jvm.Cond.classLink "LibraryDesk$SubThing" (19 : Nat) "LibraryDesk$TreeThing") ∈ lw_all := lw_g (lw_at lw_m10 136 rfl) rfl
theorem q2804 : (Jvm.Cond.classLink "LibraryDesk$SubThing" (10 : Nat) "LibraryDesk$SubThing") ∈ lw_all := lw_g (lw_at lw_m10 137 rfl) rfl
theorem q2806 : (Jvm.Cond.privateMethod ({ cls := "LibraryDesk$SubThing", name := "fromOn", desc := "(I)V" } : Jvm.MethodName)) ∈ lw_tbl := lw_at lw_m10 139 rfl
theorem q2807 : (Jvm.Cond.instanceMethod ({ cls := "LibraryDesk$SubThing", name := "fromOn", desc := "(I)V" } : Jvm.MethodName)) ∈ lw_all := lw_g (lw_at lw_m10 140 rfl) rfl
theorem q2808 : (Jvm.Cond.code ({ cls := "LibraryDesk$SubThing", name := "fromOn", desc := "(I)V" } : Jvm.MethodName) prog_30_method_5_code (2 : Nat) (Option.none : Option Jvm.ClassFile.FieldType)) ∈ lw_all := lw_g (lw_at lw_m10 141 rfl) rfl
theorem q2809 : (Jvm.Cond.methodLink "LibraryDesk$SubThing" (52 : Nat) ({ cls := "LibraryDesk$SubThing", name := "below", desc := "(IZ)V" } : Jvm.MethodName)) ∈ lw_all := lw_g (lw_at lw_m10 142 rfl) rfl
theorem q2810 : (Jvm.Cond.privateMethod ({ cls := "LibraryDesk$SubThing", name := "below", desc := "(IZ)V" } : Jvm.MethodName)) ∈ lw_tbl := lw_at lw_m10 143 rfl
theorem q2811 : (Jvm.Cond.instanceMethod ({ cls := "LibraryDesk$SubThing", name := "below", desc := "(IZ)V" } : Jvm.MethodName)) ∈ lw_all := lw_g (lw_at lw_m10 144 rfl) rfl
theorem q2812 : (Jvm.Cond.code ({ cls := "LibraryDesk$SubThing", name := "below", desc := "(IZ)V" } : Jvm.MethodName) prog_30_method_4_code (4 : Nat) (Option.none : Option Jvm.ClassFile.FieldType)) ∈ lw_all := lw_g (lw_at lw_m10 145 rfl) rfl
theorem q2813 : (Jvm.Cond.methodLink "LibraryDesk$SubThing" (56 : Nat) ({ cls := "LibraryDesk$SubThing", name := "above", desc := "(IZ)V" } : Jvm.MethodName)) ∈ lw_all := lw_g (lw_at lw_m10 146 rfl) rfl
theorem q2814 : (Jvm.Cond.privateMethod ({ cls := "LibraryDesk$SubThing", name := "above", desc := "(IZ)V" } : Jvm.MethodName)) ∈ lw_tbl := lw_at lw_m10 147 rfl
theorem q2815 : (Jvm.Cond.instanceMethod ({ cls := "LibraryDesk$SubThing", name := "above", desc := "(IZ)V" } : Jvm.MethodName)) ∈ lw_all := lw_g (lw_at lw_m10 148 rfl) rfl
theorem q2816 : (Jvm.Cond.code ({ cls := "LibraryDesk$SubThing", name := "above", desc := "(IZ)V" } : Jvm.MethodName) prog_30_method_3_code (4 : Nat) (Option.none : Option Jvm.ClassFile.FieldType)) ∈ lw_all := lw_g (lw_at lw_m10 149 rfl) rfl
theorem q2818 : (Jvm.Cond.privateMethod ({ cls := "LibraryDesk$SubThing", name := "before", desc := "(I)V" } : Jvm.MethodName)) ∈ lw_tbl := lw_at lw_m10 151 rfl
theorem q2819 : (Jvm.Cond.instanceMethod ({ cls := "LibraryDesk$SubThing", name := "before", desc := "(I)V" } : Jvm.MethodName)) ∈ lw_all := lw_g (lw_at lw_m10 152 rfl) rfl
theorem q2820 : (Jvm.Cond.code ({ cls := "LibraryDesk$SubThing", name := "before", desc := "(I)V" } : Jvm.MethodName) prog_30_method_6_code (2 : Nat) (Option.none : Option Jvm.ClassFile.FieldType)) ∈ lw_all := lw_g (lw_at lw_m10 153 rfl) rfl
theorem q2849 : (Jvm.Cond.selects "LibraryDesk$SubThing" ({ cls := "LibraryDesk$Maps", name := "changes", desc := "()I" } : Jvm.MethodName) ({ cls := "LibraryDesk$SubThing", name := "changes", desc := "()I" } : Jvm.MethodName)) ∈ lw_all := lw_g (lw_at lw_m10 182 rfl) rfl
theorem q2850 : (Jvm.Cond.instanceMethod ({ cls := "LibraryDesk$SubThing", name := "changes", desc := "()I" } : Jvm.MethodName)) ∈ lw_all := lw_g (lw_at lw_m10 183 rfl) rfl
theorem q2851 : (Jvm.Cond.code ({ cls := "LibraryDesk$SubThing", name := "changes", desc := "()I" } : Jvm.MethodName) prog_30_method_24_code (1 : Nat) (Option.some Jvm.ClassFile.FieldType.int)) ∈ lw_all := lw_g (lw_at lw_m10 184 rfl) rfl
theorem q6091 : (Jvm.Cond.selects "LibraryDesk$SubThing" ({ cls := "LibraryDesk$Thing", name := "kind", desc := "()I" } : Jvm.MethodName) ({ cls := "LibraryDesk$Thing", name := "kind", desc := "()I" } : Jvm.MethodName)) ∈ lw_all := lw_g (lw_at lw_m24 64 rfl) rfl
theorem q6105 : (Jvm.Cond.castable "LibraryDesk$SubThing" "LibraryDesk$Maps") ∈ lw_tbl := lw_at lw_m24 78 rfl
theorem q6141 : (Jvm.Cond.castable "LibraryDesk$SubThing" "java/lang/Object") ∈ lw_tbl := lw_at lw_m24 114 rfl
theorem q6166 : (Jvm.Cond.castable "LibraryDesk$SubThing" "LibraryDesk$Thing") ∈ lw_tbl := lw_at lw_m24 139 rfl
theorem in_X33 : ∀ w ∈ wsX330, w ∈ lw_all := lw_in wsX330 [1814, 1815, 1796, 1798, 1800, 1802, 1804, 1806, 1808, 1810, 1812] (by decide +kernel) (by decide +kernel)

/-! LibraryDesk$SyncThing -/
set_option maxRecDepth 100000
def RX34 : String := "LibraryDesk$SyncThing"
def TX34 : u_T := fun k => match k with
  | 0 => ("LibraryDesk$Thing", "kind", "I", true)
  | 1 => ("LibraryDesk$Thing", "used", "Z", false)
  | 2 => ("LibraryDesk$SyncThing", "value", "I", false)
  | 3 => ("LibraryDesk$SyncThing", "othe\x72", "I", false)
  | 4 => ("LibraryDesk$SyncThing", "has", "Z", false)
  | 5 => ("LibraryDesk$SyncThing", "owne\x72", "I", false)
  | 6 => ("LibraryDesk$SyncThing", "row", "LLibraryDesk$Row;", true)
  | 7 => ("LibraryDesk$SyncThing", "second", "LLibraryDesk$Row;", true)
  | 8 => ("LibraryDesk$SyncThing", "queue", "[I", true)
  | _ => ("LibraryDesk$SyncThing", "size", "I", false)
def tyX34 : Nat → FieldType := fun k => match k with
  | 0 => .int
  | 1 => .boolean
  | 2 => .int
  | 3 => .int
  | 4 => .boolean
  | 5 => .int
  | 6 => .object "LibraryDesk$Row"
  | 7 => .object "LibraryDesk$Row"
  | 8 => .array .int
  | _ => .int
abbrev wsX340 : List Cond := u_ws RX34 TX34 10
theorem nmX34 : ∀ a, a < 10 → ∀ b, b < 10 → a ≠ b → (TX34 a).2.1 ≠ (TX34 b).2.1 := by decide +kernel
theorem tyX34_ok : ∀ k, k < 10 → parseFieldDescriptor (TX34 k).2.2.1 = some (tyX34 k) := by decide +kernel
abbrev cX34_init : ByteArray := prog_31_method_1_code
def yX34_init : MethodName := ⟨RX34, "<init>", "(I)V"⟩
def dkwX34_init_1 : List UInt8 := [181, 0, 20, 42, 16, 100, 188, 10, 181, 0, 23, 177]
abbrev dktX34_init_1 : List UInt8 := dkwX34_init_1 ++ []
def dkwX34_init_0 : List UInt8 := [42, 27, 183, 0, 3, 42, 187, 0, 9, 89, 183, 0, 11, 181, 0, 14, 42, 187, 0, 9, 89, 183, 0, 11]
abbrev dktX34_init_0 : List UInt8 := dkwX34_init_0 ++ dktX34_init_1
theorem dksX34_init_0 : cX34_init.data.toList.drop 0 = dktX34_init_0 := by decide +kernel
theorem dksX34_init_1 : cX34_init.data.toList.drop 24 = dktX34_init_1 := dk_seg dksX34_init_0 24 rfl rfl
theorem dX34_init_0 : decode cX34_init 0 = .ok (.aload_n 0, 1) := dk_42 (dk_at dksX34_init_0 0 rfl rfl)
theorem dX34_init_1 : decode cX34_init 1 = .ok (.iload_n 1, 1) := dk_27 (dk_at dksX34_init_0 1 rfl rfl)
theorem dX34_init_2 : decode cX34_init 2 = .ok (.invokespecial 3, 3) := dk_183 0 3 (dk_at dksX34_init_0 2 rfl rfl)
theorem dX34_init_5 : decode cX34_init 5 = .ok (.aload_n 0, 1) := dk_42 (dk_at dksX34_init_0 5 rfl rfl)
theorem dX34_init_6 : decode cX34_init 6 = .ok (.new 9, 3) := dk_187 0 9 (dk_at dksX34_init_0 6 rfl rfl)
theorem dX34_init_9 : decode cX34_init 9 = .ok (.dup, 1) := dk_89 (dk_at dksX34_init_0 9 rfl rfl)
theorem dX34_init_10 : decode cX34_init 10 = .ok (.invokespecial 11, 3) := dk_183 0 11 (dk_at dksX34_init_0 10 rfl rfl)
theorem dX34_init_13 : decode cX34_init 13 = .ok (.putfield 14, 3) := dk_181 0 14 (dk_at dksX34_init_0 13 rfl rfl)
theorem dX34_init_16 : decode cX34_init 16 = .ok (.aload_n 0, 1) := dk_42 (dk_at dksX34_init_0 16 rfl rfl)
theorem dX34_init_17 : decode cX34_init 17 = .ok (.new 9, 3) := dk_187 0 9 (dk_at dksX34_init_0 17 rfl rfl)
theorem dX34_init_20 : decode cX34_init 20 = .ok (.dup, 1) := dk_89 (dk_at dksX34_init_0 20 rfl rfl)
theorem dX34_init_21 : decode cX34_init 21 = .ok (.invokespecial 11, 3) := dk_183 0 11 (dk_at dksX34_init_0 21 rfl rfl)
theorem dX34_init_24 : decode cX34_init 24 = .ok (.putfield 20, 3) := dk_181 0 20 (dk_at dksX34_init_1 0 rfl rfl)
theorem dX34_init_27 : decode cX34_init 27 = .ok (.aload_n 0, 1) := dk_42 (dk_at dksX34_init_1 3 rfl rfl)
theorem dX34_init_28 : decode cX34_init 28 = .ok (.bipush 100, 2) := dk_16 100 (dk_at dksX34_init_1 4 rfl rfl)
theorem dX34_init_30 : decode cX34_init 30 = .ok (.newarray .int, 2) := dk_188_10 (dk_at dksX34_init_1 6 rfl rfl)
theorem dX34_init_32 : decode cX34_init 32 = .ok (.putfield 23, 3) := dk_181 0 23 (dk_at dksX34_init_1 8 rfl rfl)
theorem dX34_init_35 : decode cX34_init 35 = .ok (.return_, 1) := dk_177 (dk_at dksX34_init_1 11 rfl rfl)
abbrev cX34_begin : ByteArray := prog_31_method_2_code
def yX34_begin : MethodName := ⟨RX34, "begin", "(II)V"⟩
def dkwX34_begin_3 : List UInt8 := [181, 0, 45, 42, 180, 0, 20, 3, 181, 0, 45, 42, 3, 181, 0, 48, 177]
abbrev dktX34_begin_3 : List UInt8 := dkwX34_begin_3 ++ []
def dkwX34_begin_2 : List UInt8 := [167, 0, 4, 27, 181, 0, 35, 42, 3, 181, 0, 38, 42, 2, 181, 0, 42, 42, 180, 0, 14, 3]
abbrev dktX34_begin_2 : List UInt8 := dkwX34_begin_2 ++ dktX34_begin_3
def dkwX34_begin_1 : List UInt8 := [16, 17, 160, 0, 7, 3, 167, 0, 4, 27, 181, 0, 31, 42, 42, 182, 0, 27, 16, 13, 160, 0, 7, 28]
abbrev dktX34_begin_1 : List UInt8 := dkwX34_begin_1 ++ dktX34_begin_2
def dkwX34_begin_0 : List UInt8 := [42, 42, 182, 0, 27, 16, 13, 159, 0, 21, 42, 182, 0, 27, 16, 16, 159, 0, 12, 42, 182, 0, 27]
abbrev dktX34_begin_0 : List UInt8 := dkwX34_begin_0 ++ dktX34_begin_1
theorem dksX34_begin_0 : cX34_begin.data.toList.drop 0 = dktX34_begin_0 := by decide +kernel
theorem dksX34_begin_1 : cX34_begin.data.toList.drop 23 = dktX34_begin_1 := dk_seg dksX34_begin_0 23 rfl rfl
theorem dksX34_begin_2 : cX34_begin.data.toList.drop 47 = dktX34_begin_2 := dk_seg dksX34_begin_1 24 rfl rfl
theorem dksX34_begin_3 : cX34_begin.data.toList.drop 69 = dktX34_begin_3 := dk_seg dksX34_begin_2 22 rfl rfl
theorem dX34_begin_0 : decode cX34_begin 0 = .ok (.aload_n 0, 1) := dk_42 (dk_at dksX34_begin_0 0 rfl rfl)
theorem dX34_begin_1 : decode cX34_begin 1 = .ok (.aload_n 0, 1) := dk_42 (dk_at dksX34_begin_0 1 rfl rfl)
theorem dX34_begin_2 : decode cX34_begin 2 = .ok (.invokevirtual 27, 3) := dk_182 0 27 (dk_at dksX34_begin_0 2 rfl rfl)
theorem dX34_begin_5 : decode cX34_begin 5 = .ok (.bipush 13, 2) := dk_16 13 (dk_at dksX34_begin_0 5 rfl rfl)
theorem dX34_begin_7 : decode cX34_begin 7 = .ok (.if_icmp .eq 21, 3) := dk_159 0 21 (dk_at dksX34_begin_0 7 rfl rfl)
theorem dX34_begin_10 : decode cX34_begin 10 = .ok (.aload_n 0, 1) := dk_42 (dk_at dksX34_begin_0 10 rfl rfl)
theorem dX34_begin_11 : decode cX34_begin 11 = .ok (.invokevirtual 27, 3) := dk_182 0 27 (dk_at dksX34_begin_0 11 rfl rfl)
theorem dX34_begin_14 : decode cX34_begin 14 = .ok (.bipush 16, 2) := dk_16 16 (dk_at dksX34_begin_0 14 rfl rfl)
theorem dX34_begin_16 : decode cX34_begin 16 = .ok (.if_icmp .eq 12, 3) := dk_159 0 12 (dk_at dksX34_begin_0 16 rfl rfl)
theorem dX34_begin_19 : decode cX34_begin 19 = .ok (.aload_n 0, 1) := dk_42 (dk_at dksX34_begin_0 19 rfl rfl)
theorem dX34_begin_20 : decode cX34_begin 20 = .ok (.invokevirtual 27, 3) := dk_182 0 27 (dk_at dksX34_begin_0 20 rfl rfl)
theorem dX34_begin_23 : decode cX34_begin 23 = .ok (.bipush 17, 2) := dk_16 17 (dk_at dksX34_begin_1 0 rfl rfl)
theorem dX34_begin_25 : decode cX34_begin 25 = .ok (.if_icmp .ne 7, 3) := dk_160 0 7 (dk_at dksX34_begin_1 2 rfl rfl)
theorem dX34_begin_28 : decode cX34_begin 28 = .ok (.iconst 0, 1) := dk_3 (dk_at dksX34_begin_1 5 rfl rfl)
theorem dX34_begin_29 : decode cX34_begin 29 = .ok (.goto 4, 3) := dk_167 0 4 (dk_at dksX34_begin_1 6 rfl rfl)
theorem dX34_begin_32 : decode cX34_begin 32 = .ok (.iload_n 1, 1) := dk_27 (dk_at dksX34_begin_1 9 rfl rfl)
theorem dX34_begin_33 : decode cX34_begin 33 = .ok (.putfield 31, 3) := dk_181 0 31 (dk_at dksX34_begin_1 10 rfl rfl)
theorem dX34_begin_36 : decode cX34_begin 36 = .ok (.aload_n 0, 1) := dk_42 (dk_at dksX34_begin_1 13 rfl rfl)
theorem dX34_begin_37 : decode cX34_begin 37 = .ok (.aload_n 0, 1) := dk_42 (dk_at dksX34_begin_1 14 rfl rfl)
theorem dX34_begin_38 : decode cX34_begin 38 = .ok (.invokevirtual 27, 3) := dk_182 0 27 (dk_at dksX34_begin_1 15 rfl rfl)
theorem dX34_begin_41 : decode cX34_begin 41 = .ok (.bipush 13, 2) := dk_16 13 (dk_at dksX34_begin_1 18 rfl rfl)
theorem dX34_begin_43 : decode cX34_begin 43 = .ok (.if_icmp .ne 7, 3) := dk_160 0 7 (dk_at dksX34_begin_1 20 rfl rfl)
theorem dX34_begin_46 : decode cX34_begin 46 = .ok (.iload_n 2, 1) := dk_28 (dk_at dksX34_begin_1 23 rfl rfl)
theorem dX34_begin_47 : decode cX34_begin 47 = .ok (.goto 4, 3) := dk_167 0 4 (dk_at dksX34_begin_2 0 rfl rfl)
theorem dX34_begin_50 : decode cX34_begin 50 = .ok (.iload_n 1, 1) := dk_27 (dk_at dksX34_begin_2 3 rfl rfl)
theorem dX34_begin_51 : decode cX34_begin 51 = .ok (.putfield 35, 3) := dk_181 0 35 (dk_at dksX34_begin_2 4 rfl rfl)
theorem dX34_begin_54 : decode cX34_begin 54 = .ok (.aload_n 0, 1) := dk_42 (dk_at dksX34_begin_2 7 rfl rfl)
theorem dX34_begin_55 : decode cX34_begin 55 = .ok (.iconst 0, 1) := dk_3 (dk_at dksX34_begin_2 8 rfl rfl)
theorem dX34_begin_56 : decode cX34_begin 56 = .ok (.putfield 38, 3) := dk_181 0 38 (dk_at dksX34_begin_2 9 rfl rfl)
theorem dX34_begin_59 : decode cX34_begin 59 = .ok (.aload_n 0, 1) := dk_42 (dk_at dksX34_begin_2 12 rfl rfl)
theorem dX34_begin_60 : decode cX34_begin 60 = .ok (.iconst (-1), 1) := dk_2 (dk_at dksX34_begin_2 13 rfl rfl)
theorem dX34_begin_61 : decode cX34_begin 61 = .ok (.putfield 42, 3) := dk_181 0 42 (dk_at dksX34_begin_2 14 rfl rfl)
theorem dX34_begin_64 : decode cX34_begin 64 = .ok (.aload_n 0, 1) := dk_42 (dk_at dksX34_begin_2 17 rfl rfl)
theorem dX34_begin_65 : decode cX34_begin 65 = .ok (.getfield 14, 3) := dk_180 0 14 (dk_at dksX34_begin_2 18 rfl rfl)
theorem dX34_begin_68 : decode cX34_begin 68 = .ok (.iconst 0, 1) := dk_3 (dk_at dksX34_begin_2 21 rfl rfl)
theorem dX34_begin_69 : decode cX34_begin 69 = .ok (.putfield 45, 3) := dk_181 0 45 (dk_at dksX34_begin_3 0 rfl rfl)
theorem dX34_begin_72 : decode cX34_begin 72 = .ok (.aload_n 0, 1) := dk_42 (dk_at dksX34_begin_3 3 rfl rfl)
theorem dX34_begin_73 : decode cX34_begin 73 = .ok (.getfield 20, 3) := dk_180 0 20 (dk_at dksX34_begin_3 4 rfl rfl)
theorem dX34_begin_76 : decode cX34_begin 76 = .ok (.iconst 0, 1) := dk_3 (dk_at dksX34_begin_3 7 rfl rfl)
theorem dX34_begin_77 : decode cX34_begin 77 = .ok (.putfield 45, 3) := dk_181 0 45 (dk_at dksX34_begin_3 8 rfl rfl)
theorem dX34_begin_80 : decode cX34_begin 80 = .ok (.aload_n 0, 1) := dk_42 (dk_at dksX34_begin_3 11 rfl rfl)
theorem dX34_begin_81 : decode cX34_begin 81 = .ok (.iconst 0, 1) := dk_3 (dk_at dksX34_begin_3 12 rfl rfl)
theorem dX34_begin_82 : decode cX34_begin 82 = .ok (.putfield 48, 3) := dk_181 0 48 (dk_at dksX34_begin_3 13 rfl rfl)
theorem dX34_begin_85 : decode cX34_begin 85 = .ok (.return_, 1) := dk_177 (dk_at dksX34_begin_3 16 rfl rfl)
abbrev cX34_put : ByteArray := prog_31_method_3_code
def yX34_put : MethodName := ⟨RX34, "put", "(I)V"⟩
def dkwX34_put_0 : List UInt8 := [42, 180, 0, 23, 42, 180, 0, 48, 27, 79, 42, 89, 180, 0, 48, 4, 96, 181, 0, 48, 177]
abbrev dktX34_put_0 : List UInt8 := dkwX34_put_0 ++ []
theorem dksX34_put_0 : cX34_put.data.toList.drop 0 = dktX34_put_0 := by decide +kernel
theorem dX34_put_0 : decode cX34_put 0 = .ok (.aload_n 0, 1) := dk_42 (dk_at dksX34_put_0 0 rfl rfl)
theorem dX34_put_1 : decode cX34_put 1 = .ok (.getfield 23, 3) := dk_180 0 23 (dk_at dksX34_put_0 1 rfl rfl)
theorem dX34_put_4 : decode cX34_put 4 = .ok (.aload_n 0, 1) := dk_42 (dk_at dksX34_put_0 4 rfl rfl)
theorem dX34_put_5 : decode cX34_put 5 = .ok (.getfield 48, 3) := dk_180 0 48 (dk_at dksX34_put_0 5 rfl rfl)
theorem dX34_put_8 : decode cX34_put 8 = .ok (.iload_n 1, 1) := dk_27 (dk_at dksX34_put_0 8 rfl rfl)
theorem dX34_put_9 : decode cX34_put 9 = .ok (.iastore, 1) := dk_79 (dk_at dksX34_put_0 9 rfl rfl)
theorem dX34_put_10 : decode cX34_put 10 = .ok (.aload_n 0, 1) := dk_42 (dk_at dksX34_put_0 10 rfl rfl)
theorem dX34_put_11 : decode cX34_put 11 = .ok (.dup, 1) := dk_89 (dk_at dksX34_put_0 11 rfl rfl)
theorem dX34_put_12 : decode cX34_put 12 = .ok (.getfield 48, 3) := dk_180 0 48 (dk_at dksX34_put_0 12 rfl rfl)
theorem dX34_put_15 : decode cX34_put 15 = .ok (.iconst 1, 1) := dk_4 (dk_at dksX34_put_0 15 rfl rfl)
theorem dX34_put_16 : decode cX34_put 16 = .ok (.iadd, 1) := dk_96 (dk_at dksX34_put_0 16 rfl rfl)
theorem dX34_put_17 : decode cX34_put 17 = .ok (.putfield 48, 3) := dk_181 0 48 (dk_at dksX34_put_0 17 rfl rfl)
theorem dX34_put_20 : decode cX34_put 20 = .ok (.return_, 1) := dk_177 (dk_at dksX34_put_0 20 rfl rfl)
abbrev cX34_take : ByteArray := prog_31_method_4_code
def yX34_take : MethodName := ⟨RX34, "take", "()I"⟩
def dkwX34_take_2 : List UInt8 := [172]
abbrev dktX34_take_2 : List UInt8 := dkwX34_take_2 ++ []
def dkwX34_take_1 : List UInt8 := [42, 180, 0, 23, 28, 46, 79, 132, 2, 1, 167, 255, 231, 42, 89, 180, 0, 48, 4, 100, 181, 0, 48, 27]
abbrev dktX34_take_1 : List UInt8 := dkwX34_take_1 ++ dktX34_take_2
def dkwX34_take_0 : List UInt8 := [42, 180, 0, 23, 3, 46, 60, 4, 61, 28, 42, 180, 0, 48, 162, 0, 23, 42, 180, 0, 23, 28, 4, 100]
abbrev dktX34_take_0 : List UInt8 := dkwX34_take_0 ++ dktX34_take_1
theorem dksX34_take_0 : cX34_take.data.toList.drop 0 = dktX34_take_0 := by decide +kernel
theorem dksX34_take_1 : cX34_take.data.toList.drop 24 = dktX34_take_1 := dk_seg dksX34_take_0 24 rfl rfl
theorem dksX34_take_2 : cX34_take.data.toList.drop 48 = dktX34_take_2 := dk_seg dksX34_take_1 24 rfl rfl
theorem dX34_take_0 : decode cX34_take 0 = .ok (.aload_n 0, 1) := dk_42 (dk_at dksX34_take_0 0 rfl rfl)
theorem dX34_take_1 : decode cX34_take 1 = .ok (.getfield 23, 3) := dk_180 0 23 (dk_at dksX34_take_0 1 rfl rfl)
theorem dX34_take_4 : decode cX34_take 4 = .ok (.iconst 0, 1) := dk_3 (dk_at dksX34_take_0 4 rfl rfl)
theorem dX34_take_5 : decode cX34_take 5 = .ok (.iaload, 1) := dk_46 (dk_at dksX34_take_0 5 rfl rfl)
theorem dX34_take_6 : decode cX34_take 6 = .ok (.istore_n 1, 1) := dk_60 (dk_at dksX34_take_0 6 rfl rfl)
theorem dX34_take_7 : decode cX34_take 7 = .ok (.iconst 1, 1) := dk_4 (dk_at dksX34_take_0 7 rfl rfl)
theorem dX34_take_8 : decode cX34_take 8 = .ok (.istore_n 2, 1) := dk_61 (dk_at dksX34_take_0 8 rfl rfl)
theorem dX34_take_9 : decode cX34_take 9 = .ok (.iload_n 2, 1) := dk_28 (dk_at dksX34_take_0 9 rfl rfl)
theorem dX34_take_10 : decode cX34_take 10 = .ok (.aload_n 0, 1) := dk_42 (dk_at dksX34_take_0 10 rfl rfl)
theorem dX34_take_11 : decode cX34_take 11 = .ok (.getfield 48, 3) := dk_180 0 48 (dk_at dksX34_take_0 11 rfl rfl)
theorem dX34_take_14 : decode cX34_take 14 = .ok (.if_icmp .ge 23, 3) := dk_162 0 23 (dk_at dksX34_take_0 14 rfl rfl)
theorem dX34_take_17 : decode cX34_take 17 = .ok (.aload_n 0, 1) := dk_42 (dk_at dksX34_take_0 17 rfl rfl)
theorem dX34_take_18 : decode cX34_take 18 = .ok (.getfield 23, 3) := dk_180 0 23 (dk_at dksX34_take_0 18 rfl rfl)
theorem dX34_take_21 : decode cX34_take 21 = .ok (.iload_n 2, 1) := dk_28 (dk_at dksX34_take_0 21 rfl rfl)
theorem dX34_take_22 : decode cX34_take 22 = .ok (.iconst 1, 1) := dk_4 (dk_at dksX34_take_0 22 rfl rfl)
theorem dX34_take_23 : decode cX34_take 23 = .ok (.isub, 1) := dk_100 (dk_at dksX34_take_0 23 rfl rfl)
theorem dX34_take_24 : decode cX34_take 24 = .ok (.aload_n 0, 1) := dk_42 (dk_at dksX34_take_1 0 rfl rfl)
theorem dX34_take_25 : decode cX34_take 25 = .ok (.getfield 23, 3) := dk_180 0 23 (dk_at dksX34_take_1 1 rfl rfl)
theorem dX34_take_28 : decode cX34_take 28 = .ok (.iload_n 2, 1) := dk_28 (dk_at dksX34_take_1 4 rfl rfl)
theorem dX34_take_29 : decode cX34_take 29 = .ok (.iaload, 1) := dk_46 (dk_at dksX34_take_1 5 rfl rfl)
theorem dX34_take_30 : decode cX34_take 30 = .ok (.iastore, 1) := dk_79 (dk_at dksX34_take_1 6 rfl rfl)
theorem dX34_take_31 : decode cX34_take 31 = .ok (.iinc 2 1, 3) := dk_132 2 1 (dk_at dksX34_take_1 7 rfl rfl)
theorem dX34_take_34 : decode cX34_take 34 = .ok (.goto (-25), 3) := dk_167 255 231 (dk_at dksX34_take_1 10 rfl rfl)
theorem dX34_take_37 : decode cX34_take 37 = .ok (.aload_n 0, 1) := dk_42 (dk_at dksX34_take_1 13 rfl rfl)
theorem dX34_take_38 : decode cX34_take 38 = .ok (.dup, 1) := dk_89 (dk_at dksX34_take_1 14 rfl rfl)
theorem dX34_take_39 : decode cX34_take 39 = .ok (.getfield 48, 3) := dk_180 0 48 (dk_at dksX34_take_1 15 rfl rfl)
theorem dX34_take_42 : decode cX34_take 42 = .ok (.iconst 1, 1) := dk_4 (dk_at dksX34_take_1 18 rfl rfl)
theorem dX34_take_43 : decode cX34_take 43 = .ok (.isub, 1) := dk_100 (dk_at dksX34_take_1 19 rfl rfl)
theorem dX34_take_44 : decode cX34_take 44 = .ok (.putfield 48, 3) := dk_181 0 48 (dk_at dksX34_take_1 20 rfl rfl)
theorem dX34_take_47 : decode cX34_take 47 = .ok (.iload_n 1, 1) := dk_27 (dk_at dksX34_take_1 23 rfl rfl)
theorem dX34_take_48 : decode cX34_take 48 = .ok (.ireturn, 1) := dk_172 (dk_at dksX34_take_2 0 rfl rfl)
theorem q550 : (Jvm.Cond.initialized "LibraryDesk$SyncThing") ∈ lw_all := lw_g (lw_at lw_m1 43 rfl) rfl
theorem q1144 : (Jvm.Cond.sameMethod "LibraryDesk$SyncThing" "LibraryDesk$Thing" "kind" "()I") ∈ lw_all := lw_g (lw_at lw_m3 157 rfl) rfl
theorem q1146 : (Jvm.Cond.selects "LibraryDesk$SyncThing" ({ cls := "LibraryDesk$SyncThing", name := "kind", desc := "()I" } : Jvm.MethodName) ({ cls := "LibraryDesk$Thing", name := "kind", desc := "()I" } : Jvm.MethodName)) ∈ lw_all := lw_g (lw_at lw_m3 159 rfl) rfl
theorem q1818 : (Jvm.Cond.instantiable "LibraryDesk$SyncThing" (10 : Nat)) ∈ lw_all := lw_g (lw_at lw_m6 111 rfl) rfl
theorem q1820 : (Jvm.Cond.instanceMethod ({ cls := "LibraryDesk$SyncThing", name := "<init>", desc := "(I)V" } : Jvm.MethodName)) ∈ lw_all := lw_g (lw_at lw_m6 113 rfl) rfl
theorem q1821 : (Jvm.Cond.code ({ cls := "LibraryDesk$SyncThing", name := "<init>", desc := "(I)V" } : Jvm.MethodName) prog_31_method_1_code (2 : Nat) (Option.none : Option Jvm.ClassFile.FieldType)) ∈ lw_all := lw_g (lw_at lw_m6 114 rfl) rfl
theorem q1822 : (Jvm.Cond.methodLinkNest "LibraryDesk$SyncThing" (3 : Nat) ({ cls := "LibraryDesk$Thing", name := "<init>", desc := "(I)V" } : Jvm.MethodName) "LibraryDesk") ∈ lw_tbl := lw_at lw_m6 115 rfl
theorem q1823 : (Jvm.Cond.classLink "LibraryDesk$SyncThing" (9 : Nat) "LibraryDesk$Row") ∈ lw_all := lw_g (lw_at lw_m6 116 rfl) rfl
theorem q1824 : (Jvm.Cond.methodLinkNest "LibraryDesk$SyncThing" (11 : Nat) ({ cls := "LibraryDesk$Row", name := "<init>", desc := "()V" } : Jvm.MethodName) "LibraryDesk") ∈ lw_tbl := lw_at lw_m6 117 rfl
theorem q1831 : (Jvm.Cond.fieldLinkNest "LibraryDesk$SyncThing" (45 : Nat) "LibraryDesk$Row" "size" "I" "LibraryDesk") ∈ lw_tbl := lw_at lw_m6 124 rfl
theorem q1839 : (Jvm.Cond.fieldLink "LibraryDesk$SyncThing" (31 : Nat) "LibraryDesk$SyncThing" "value" "I") ∈ lw_all := lw_g (lw_at lw_m6 132 rfl) rfl
theorem q1841 : (Jvm.Cond.fieldLink "LibraryDesk$SyncThing" (35 : Nat) "LibraryDesk$SyncThing" "othe\x72" "I") ∈ lw_all := lw_g (lw_at lw_m6 134 rfl) rfl
theorem q1843 : (Jvm.Cond.fieldLink "LibraryDesk$SyncThing" (38 : Nat) "LibraryDesk$SyncThing" "has" "Z") ∈ lw_all := lw_g (lw_at lw_m6 136 rfl) rfl
theorem q1845 : (Jvm.Cond.fieldLink "LibraryDesk$SyncThing" (42 : Nat) "LibraryDesk$SyncThing" "owne\x72" "I") ∈ lw_all := lw_g (lw_at lw_m6 138 rfl) rfl
theorem q1847 : (Jvm.Cond.fieldLink "LibraryDesk$SyncThing" (14 : Nat) "LibraryDesk$SyncThing" "row" "LLibraryDesk$Row;") ∈ lw_all := lw_g (lw_at lw_m6 140 rfl) rfl
theorem q1850 : (Jvm.Cond.fieldLink "LibraryDesk$SyncThing" (20 : Nat) "LibraryDesk$SyncThing" "second" "LLibraryDesk$Row;") ∈ lw_all := lw_g (lw_at lw_m6 143 rfl) rfl
theorem q1853 : (Jvm.Cond.fieldLink "LibraryDesk$SyncThing" (23 : Nat) "LibraryDesk$SyncThing" "queue" "[I") ∈ lw_all := lw_g (lw_at lw_m6 146 rfl) rfl
theorem q1854 : (Jvm.Cond.fieldLink "LibraryDesk$SyncThing" (48 : Nat) "LibraryDesk$SyncThing" "size" "I") ∈ lw_all := lw_g (lw_at lw_m6 147 rfl) rfl
theorem q1856 : (Jvm.Cond.lays "LibraryDesk$SyncThing" "LibraryDesk$SyncThing" "value" "I") ∈ lw_all := lw_g (lw_at lw_m6 149 rfl) rfl
theorem q1857 : (Jvm.Cond.soleField "LibraryDesk$SyncThing" "value") ∈ lw_all := lw_g (lw_at lw_m6 150 rfl) rfl
theorem q1858 : (Jvm.Cond.lays "LibraryDesk$SyncThing" "LibraryDesk$SyncThing" "othe\x72" "I") ∈ lw_all := lw_g (lw_at lw_m6 151 rfl) rfl
theorem q1859 : (Jvm.Cond.soleField "LibraryDesk$SyncThing" "othe\x72") ∈ lw_all := lw_g (lw_at lw_m6 152 rfl) rfl
theorem q1860 : (Jvm.Cond.lays "LibraryDesk$SyncThing" "LibraryDesk$SyncThing" "has" "Z") ∈ lw_all := lw_g (lw_at lw_m6 153 rfl) rfl
theorem q1861 : (Jvm.Cond.soleField "LibraryDesk$SyncThing" "has") ∈ lw_all := lw_g (lw_at lw_m6 154 rfl) rfl
theorem q1862 : (Jvm.Cond.lays "LibraryDesk$SyncThing" "LibraryDesk$SyncThing" "owne\x72" "I") ∈ lw_all := lw_g (lw_at lw_m6 155 rfl) rfl
theorem q1863 : (Jvm.Cond.soleField "LibraryDesk$SyncThing" "owne\x72") ∈ lw_all := lw_g (lw_at lw_m6 156 rfl) rfl
theorem q1864 : (Jvm.Cond.laysFinal "LibraryDesk$SyncThing" "LibraryDesk$SyncThing" "row" "LLibraryDesk$Row;") ∈ lw_all := lw_g (lw_at lw_m6 157 rfl) rfl
theorem q1865 : (Jvm.Cond.soleField "LibraryDesk$SyncThing" "row") ∈ lw_all := lw_g (lw_at lw_m6 158 rfl) rfl
theorem q1866 : (Jvm.Cond.laysFinal "LibraryDesk$SyncThing" "LibraryDesk$SyncThing" "second" "LLibraryDesk$Row;") ∈ lw_all := lw_g (lw_at lw_m6 159 rfl) rfl
theorem q1867 : (Jvm.Cond.soleField "LibraryDesk$SyncThing" "second") ∈ lw_all := lw_g (lw_at lw_m6 160 rfl) rfl
theorem q1868 : (Jvm.Cond.laysFinal "LibraryDesk$SyncThing" "LibraryDesk$SyncThing" "queue" "[I") ∈ lw_all := lw_g (lw_at lw_m6 161 rfl) rfl
theorem q1869 : (Jvm.Cond.soleField "LibraryDesk$SyncThing" "queue") ∈ lw_all := lw_g (lw_at lw_m6 162 rfl) rfl
theorem q1870 : (Jvm.Cond.lays "LibraryDesk$SyncThing" "LibraryDesk$SyncThing" "size" "I") ∈ lw_all := lw_g (lw_at lw_m6 163 rfl) rfl
theorem q1871 : (Jvm.Cond.soleField "LibraryDesk$SyncThing" "size") ∈ lw_all := lw_g (lw_at lw_m6 164 rfl) rfl
theorem q1872 : (Jvm.Cond.laysFinal "LibraryDesk$SyncThing" "LibraryDesk$Thing" "kind" "I") ∈ lw_all := lw_g (lw_at lw_m6 165 rfl) rfl
theorem q1873 : (Jvm.Cond.lays "LibraryDesk$SyncThing" "LibraryDesk$Thing" "used" "Z") ∈ lw_all := lw_g (lw_at lw_m6 166 rfl) rfl
theorem q1874 : (Jvm.Cond.superclass "LibraryDesk$SyncThing" "LibraryDesk$Thing") ∈ lw_all := lw_g (lw_at lw_m6 167 rfl) rfl
theorem q1925 : (Jvm.Cond.privateMethod ({ cls := "LibraryDesk$SyncThing", name := "begin", desc := "(II)V" } : Jvm.MethodName)) ∈ lw_tbl := lw_at lw_m6 218 rfl
theorem q1926 : (Jvm.Cond.instanceMethod ({ cls := "LibraryDesk$SyncThing", name := "begin", desc := "(II)V" } : Jvm.MethodName)) ∈ lw_all := lw_g (lw_at lw_m6 219 rfl) rfl
theorem q1927 : (Jvm.Cond.code ({ cls := "LibraryDesk$SyncThing", name := "begin", desc := "(II)V" } : Jvm.MethodName) prog_31_method_2_code (3 : Nat) (Option.none : Option Jvm.ClassFile.FieldType)) ∈ lw_all := lw_g (lw_at lw_m6 220 rfl) rfl
theorem q1928 : (Jvm.Cond.methodLink "LibraryDesk$SyncThing" (27 : Nat) ({ cls := "LibraryDesk$SyncThing", name := "kind", desc := "()I" } : Jvm.MethodName)) ∈ lw_all := lw_g (lw_at lw_m6 221 rfl) rfl
theorem q4318 : (Jvm.Cond.privateMethod ({ cls := "LibraryDesk$SyncThing", name := "put", desc := "(I)V" } : Jvm.MethodName)) ∈ lw_tbl := lw_at lw_m16 211 rfl
theorem q4319 : (Jvm.Cond.instanceMethod ({ cls := "LibraryDesk$SyncThing", name := "put", desc := "(I)V" } : Jvm.MethodName)) ∈ lw_all := lw_g (lw_at lw_m16 212 rfl) rfl
theorem q4320 : (Jvm.Cond.code ({ cls := "LibraryDesk$SyncThing", name := "put", desc := "(I)V" } : Jvm.MethodName) prog_31_method_3_code (2 : Nat) (Option.none : Option Jvm.ClassFile.FieldType)) ∈ lw_all := lw_g (lw_at lw_m16 213 rfl) rfl
theorem q4322 : (Jvm.Cond.privateMethod ({ cls := "LibraryDesk$SyncThing", name := "take", desc := "()I" } : Jvm.MethodName)) ∈ lw_tbl := lw_at lw_m16 215 rfl
theorem q4323 : (Jvm.Cond.instanceMethod ({ cls := "LibraryDesk$SyncThing", name := "take", desc := "()I" } : Jvm.MethodName)) ∈ lw_all := lw_g (lw_at lw_m16 216 rfl) rfl
theorem q4324 : (Jvm.Cond.code ({ cls := "LibraryDesk$SyncThing", name := "take", desc := "()I" } : Jvm.MethodName) prog_31_method_4_code (3 : Nat) (Option.some Jvm.ClassFile.FieldType.int)) ∈ lw_all := lw_g (lw_at lw_m16 217 rfl) rfl
theorem q6092 : (Jvm.Cond.selects "LibraryDesk$SyncThing" ({ cls := "LibraryDesk$Thing", name := "kind", desc := "()I" } : Jvm.MethodName) ({ cls := "LibraryDesk$Thing", name := "kind", desc := "()I" } : Jvm.MethodName)) ∈ lw_all := lw_g (lw_at lw_m24 65 rfl) rfl
theorem q6142 : (Jvm.Cond.castable "LibraryDesk$SyncThing" "java/lang/Object") ∈ lw_tbl := lw_at lw_m24 115 rfl
theorem q6167 : (Jvm.Cond.castable "LibraryDesk$SyncThing" "LibraryDesk$Thing") ∈ lw_tbl := lw_at lw_m24 140 rfl
theorem in_X34 : ∀ w ∈ wsX340, w ∈ lw_all := lw_in wsX340 [1872, 1873, 1856, 1858, 1860, 1862, 1864, 1866, 1868, 1870] (by decide +kernel) (by decide +kernel)

/-! LibraryDesk$Row -/
set_option maxRecDepth 100000
def RX35 : String := "LibraryDesk$Row"
def TX35 : u_T := fun k => match k with
  | 0 => ("LibraryDesk$Row", "thread", "[I", true)
  | _ => ("LibraryDesk$Row", "size", "I", false)
def tyX35 : Nat → FieldType := fun k => match k with
  | 0 => .array .int
  | _ => .int
abbrev wsX350 : List Cond := u_ws RX35 TX35 2
theorem nmX35 : ∀ a, a < 2 → ∀ b, b < 2 → a ≠ b → (TX35 a).2.1 ≠ (TX35 b).2.1 := by decide +kernel
theorem tyX35_ok : ∀ k, k < 2 → parseFieldDescriptor (TX35 k).2.2.1 = some (tyX35 k) := by decide +kernel
abbrev cX35_has : ByteArray := prog_26_method_5_code
def yX35_has : MethodName := ⟨RX35, "has", "(I)Z"⟩
def dkwX35_has_1 : List UInt8 := [132, 2, 1, 167, 255, 233, 3, 172]
abbrev dktX35_has_1 : List UInt8 := dkwX35_has_1 ++ []
def dkwX35_has_0 : List UInt8 := [3, 61, 28, 42, 180, 0, 13, 162, 0, 21, 42, 180, 0, 7, 28, 46, 27, 160, 0, 5, 4, 172]
abbrev dktX35_has_0 : List UInt8 := dkwX35_has_0 ++ dktX35_has_1
theorem dksX35_has_0 : cX35_has.data.toList.drop 0 = dktX35_has_0 := by decide +kernel
theorem dksX35_has_1 : cX35_has.data.toList.drop 22 = dktX35_has_1 := dk_seg dksX35_has_0 22 rfl rfl
theorem dX35_has_0 : decode cX35_has 0 = .ok (.iconst 0, 1) := dk_3 (dk_at dksX35_has_0 0 rfl rfl)
theorem dX35_has_1 : decode cX35_has 1 = .ok (.istore_n 2, 1) := dk_61 (dk_at dksX35_has_0 1 rfl rfl)
theorem dX35_has_2 : decode cX35_has 2 = .ok (.iload_n 2, 1) := dk_28 (dk_at dksX35_has_0 2 rfl rfl)
theorem dX35_has_3 : decode cX35_has 3 = .ok (.aload_n 0, 1) := dk_42 (dk_at dksX35_has_0 3 rfl rfl)
theorem dX35_has_4 : decode cX35_has 4 = .ok (.getfield 13, 3) := dk_180 0 13 (dk_at dksX35_has_0 4 rfl rfl)
theorem dX35_has_7 : decode cX35_has 7 = .ok (.if_icmp .ge 21, 3) := dk_162 0 21 (dk_at dksX35_has_0 7 rfl rfl)
theorem dX35_has_10 : decode cX35_has 10 = .ok (.aload_n 0, 1) := dk_42 (dk_at dksX35_has_0 10 rfl rfl)
theorem dX35_has_11 : decode cX35_has 11 = .ok (.getfield 7, 3) := dk_180 0 7 (dk_at dksX35_has_0 11 rfl rfl)
theorem dX35_has_14 : decode cX35_has 14 = .ok (.iload_n 2, 1) := dk_28 (dk_at dksX35_has_0 14 rfl rfl)
theorem dX35_has_15 : decode cX35_has 15 = .ok (.iaload, 1) := dk_46 (dk_at dksX35_has_0 15 rfl rfl)
theorem dX35_has_16 : decode cX35_has 16 = .ok (.iload_n 1, 1) := dk_27 (dk_at dksX35_has_0 16 rfl rfl)
theorem dX35_has_17 : decode cX35_has 17 = .ok (.if_icmp .ne 5, 3) := dk_160 0 5 (dk_at dksX35_has_0 17 rfl rfl)
theorem dX35_has_20 : decode cX35_has 20 = .ok (.iconst 1, 1) := dk_4 (dk_at dksX35_has_0 20 rfl rfl)
theorem dX35_has_21 : decode cX35_has 21 = .ok (.ireturn, 1) := dk_172 (dk_at dksX35_has_0 21 rfl rfl)
theorem dX35_has_22 : decode cX35_has 22 = .ok (.iinc 2 1, 3) := dk_132 2 1 (dk_at dksX35_has_1 0 rfl rfl)
theorem dX35_has_25 : decode cX35_has 25 = .ok (.goto (-23), 3) := dk_167 255 233 (dk_at dksX35_has_1 3 rfl rfl)
theorem dX35_has_28 : decode cX35_has 28 = .ok (.iconst 0, 1) := dk_3 (dk_at dksX35_has_1 6 rfl rfl)
theorem dX35_has_29 : decode cX35_has 29 = .ok (.ireturn, 1) := dk_172 (dk_at dksX35_has_1 7 rfl rfl)
abbrev cX35_init : ByteArray := prog_26_method_1_code
def yX35_init : MethodName := ⟨RX35, "<init>", "()V"⟩
def dkwX35_init_0 : List UInt8 := [42, 183, 0, 1, 42, 16, 8, 188, 10, 181, 0, 7, 177]
abbrev dktX35_init_0 : List UInt8 := dkwX35_init_0 ++ []
theorem dksX35_init_0 : cX35_init.data.toList.drop 0 = dktX35_init_0 := by decide +kernel
theorem dX35_init_0 : decode cX35_init 0 = .ok (.aload_n 0, 1) := dk_42 (dk_at dksX35_init_0 0 rfl rfl)
theorem dX35_init_1 : decode cX35_init 1 = .ok (.invokespecial 1, 3) := dk_183 0 1 (dk_at dksX35_init_0 1 rfl rfl)
theorem dX35_init_4 : decode cX35_init 4 = .ok (.aload_n 0, 1) := dk_42 (dk_at dksX35_init_0 4 rfl rfl)
theorem dX35_init_5 : decode cX35_init 5 = .ok (.bipush 8, 2) := dk_16 8 (dk_at dksX35_init_0 5 rfl rfl)
theorem dX35_init_7 : decode cX35_init 7 = .ok (.newarray .int, 2) := dk_188_10 (dk_at dksX35_init_0 7 rfl rfl)
theorem dX35_init_9 : decode cX35_init 9 = .ok (.putfield 7, 3) := dk_181 0 7 (dk_at dksX35_init_0 9 rfl rfl)
theorem dX35_init_12 : decode cX35_init 12 = .ok (.return_, 1) := dk_177 (dk_at dksX35_init_0 12 rfl rfl)
abbrev cX35_remove : ByteArray := prog_26_method_4_code
def yX35_remove : MethodName := ⟨RX35, "remove", "(I)V"⟩
def dkwX35_remove_2 : List UInt8 := [42, 28, 181, 0, 13, 177]
abbrev dktX35_remove_2 : List UInt8 := dkwX35_remove_2 ++ []
def dkwX35_remove_1 : List UInt8 := [167, 0, 18, 42, 180, 0, 7, 28, 42, 180, 0, 7, 29, 46, 79, 132, 2, 1, 132, 3, 1, 167, 255, 217]
abbrev dktX35_remove_1 : List UInt8 := dkwX35_remove_1 ++ dktX35_remove_2
def dkwX35_remove_0 : List UInt8 := [3, 61, 3, 62, 29, 42, 180, 0, 13, 162, 0, 37, 42, 180, 0, 7, 29, 46, 27, 160, 0, 6]
abbrev dktX35_remove_0 : List UInt8 := dkwX35_remove_0 ++ dktX35_remove_1
theorem dksX35_remove_0 : cX35_remove.data.toList.drop 0 = dktX35_remove_0 := by decide +kernel
theorem dksX35_remove_1 : cX35_remove.data.toList.drop 22 = dktX35_remove_1 := dk_seg dksX35_remove_0 22 rfl rfl
theorem dksX35_remove_2 : cX35_remove.data.toList.drop 46 = dktX35_remove_2 := dk_seg dksX35_remove_1 24 rfl rfl
theorem dX35_remove_0 : decode cX35_remove 0 = .ok (.iconst 0, 1) := dk_3 (dk_at dksX35_remove_0 0 rfl rfl)
theorem dX35_remove_1 : decode cX35_remove 1 = .ok (.istore_n 2, 1) := dk_61 (dk_at dksX35_remove_0 1 rfl rfl)
theorem dX35_remove_2 : decode cX35_remove 2 = .ok (.iconst 0, 1) := dk_3 (dk_at dksX35_remove_0 2 rfl rfl)
theorem dX35_remove_3 : decode cX35_remove 3 = .ok (.istore_n 3, 1) := dk_62 (dk_at dksX35_remove_0 3 rfl rfl)
theorem dX35_remove_4 : decode cX35_remove 4 = .ok (.iload_n 3, 1) := dk_29 (dk_at dksX35_remove_0 4 rfl rfl)
theorem dX35_remove_5 : decode cX35_remove 5 = .ok (.aload_n 0, 1) := dk_42 (dk_at dksX35_remove_0 5 rfl rfl)
theorem dX35_remove_6 : decode cX35_remove 6 = .ok (.getfield 13, 3) := dk_180 0 13 (dk_at dksX35_remove_0 6 rfl rfl)
theorem dX35_remove_9 : decode cX35_remove 9 = .ok (.if_icmp .ge 37, 3) := dk_162 0 37 (dk_at dksX35_remove_0 9 rfl rfl)
theorem dX35_remove_12 : decode cX35_remove 12 = .ok (.aload_n 0, 1) := dk_42 (dk_at dksX35_remove_0 12 rfl rfl)
theorem dX35_remove_13 : decode cX35_remove 13 = .ok (.getfield 7, 3) := dk_180 0 7 (dk_at dksX35_remove_0 13 rfl rfl)
theorem dX35_remove_16 : decode cX35_remove 16 = .ok (.iload_n 3, 1) := dk_29 (dk_at dksX35_remove_0 16 rfl rfl)
theorem dX35_remove_17 : decode cX35_remove 17 = .ok (.iaload, 1) := dk_46 (dk_at dksX35_remove_0 17 rfl rfl)
theorem dX35_remove_18 : decode cX35_remove 18 = .ok (.iload_n 1, 1) := dk_27 (dk_at dksX35_remove_0 18 rfl rfl)
theorem dX35_remove_19 : decode cX35_remove 19 = .ok (.if_icmp .ne 6, 3) := dk_160 0 6 (dk_at dksX35_remove_0 19 rfl rfl)
theorem dX35_remove_22 : decode cX35_remove 22 = .ok (.goto 18, 3) := dk_167 0 18 (dk_at dksX35_remove_1 0 rfl rfl)
theorem dX35_remove_25 : decode cX35_remove 25 = .ok (.aload_n 0, 1) := dk_42 (dk_at dksX35_remove_1 3 rfl rfl)
theorem dX35_remove_26 : decode cX35_remove 26 = .ok (.getfield 7, 3) := dk_180 0 7 (dk_at dksX35_remove_1 4 rfl rfl)
theorem dX35_remove_29 : decode cX35_remove 29 = .ok (.iload_n 2, 1) := dk_28 (dk_at dksX35_remove_1 7 rfl rfl)
theorem dX35_remove_30 : decode cX35_remove 30 = .ok (.aload_n 0, 1) := dk_42 (dk_at dksX35_remove_1 8 rfl rfl)
theorem dX35_remove_31 : decode cX35_remove 31 = .ok (.getfield 7, 3) := dk_180 0 7 (dk_at dksX35_remove_1 9 rfl rfl)
theorem dX35_remove_34 : decode cX35_remove 34 = .ok (.iload_n 3, 1) := dk_29 (dk_at dksX35_remove_1 12 rfl rfl)
theorem dX35_remove_35 : decode cX35_remove 35 = .ok (.iaload, 1) := dk_46 (dk_at dksX35_remove_1 13 rfl rfl)
theorem dX35_remove_36 : decode cX35_remove 36 = .ok (.iastore, 1) := dk_79 (dk_at dksX35_remove_1 14 rfl rfl)
theorem dX35_remove_37 : decode cX35_remove 37 = .ok (.iinc 2 1, 3) := dk_132 2 1 (dk_at dksX35_remove_1 15 rfl rfl)
theorem dX35_remove_40 : decode cX35_remove 40 = .ok (.iinc 3 1, 3) := dk_132 3 1 (dk_at dksX35_remove_1 18 rfl rfl)
theorem dX35_remove_43 : decode cX35_remove 43 = .ok (.goto (-39), 3) := dk_167 255 217 (dk_at dksX35_remove_1 21 rfl rfl)
theorem dX35_remove_46 : decode cX35_remove 46 = .ok (.aload_n 0, 1) := dk_42 (dk_at dksX35_remove_2 0 rfl rfl)
theorem dX35_remove_47 : decode cX35_remove 47 = .ok (.iload_n 2, 1) := dk_28 (dk_at dksX35_remove_2 1 rfl rfl)
theorem dX35_remove_48 : decode cX35_remove 48 = .ok (.putfield 13, 3) := dk_181 0 13 (dk_at dksX35_remove_2 2 rfl rfl)
theorem dX35_remove_51 : decode cX35_remove 51 = .ok (.return_, 1) := dk_177 (dk_at dksX35_remove_2 5 rfl rfl)
abbrev cX35_add : ByteArray := prog_26_method_2_code
def yX35_add : MethodName := ⟨RX35, "add", "(I)V"⟩
def dkwX35_add_0 : List UInt8 := [42, 180, 0, 7, 42, 180, 0, 13, 27, 79, 42, 89, 180, 0, 13, 4, 96, 181, 0, 13, 177]
abbrev dktX35_add_0 : List UInt8 := dkwX35_add_0 ++ []
theorem dksX35_add_0 : cX35_add.data.toList.drop 0 = dktX35_add_0 := by decide +kernel
theorem dX35_add_0 : decode cX35_add 0 = .ok (.aload_n 0, 1) := dk_42 (dk_at dksX35_add_0 0 rfl rfl)
theorem dX35_add_1 : decode cX35_add 1 = .ok (.getfield 7, 3) := dk_180 0 7 (dk_at dksX35_add_0 1 rfl rfl)
theorem dX35_add_4 : decode cX35_add 4 = .ok (.aload_n 0, 1) := dk_42 (dk_at dksX35_add_0 4 rfl rfl)
theorem dX35_add_5 : decode cX35_add 5 = .ok (.getfield 13, 3) := dk_180 0 13 (dk_at dksX35_add_0 5 rfl rfl)
theorem dX35_add_8 : decode cX35_add 8 = .ok (.iload_n 1, 1) := dk_27 (dk_at dksX35_add_0 8 rfl rfl)
theorem dX35_add_9 : decode cX35_add 9 = .ok (.iastore, 1) := dk_79 (dk_at dksX35_add_0 9 rfl rfl)
theorem dX35_add_10 : decode cX35_add 10 = .ok (.aload_n 0, 1) := dk_42 (dk_at dksX35_add_0 10 rfl rfl)
theorem dX35_add_11 : decode cX35_add 11 = .ok (.dup, 1) := dk_89 (dk_at dksX35_add_0 11 rfl rfl)
theorem dX35_add_12 : decode cX35_add 12 = .ok (.getfield 13, 3) := dk_180 0 13 (dk_at dksX35_add_0 12 rfl rfl)
theorem dX35_add_15 : decode cX35_add 15 = .ok (.iconst 1, 1) := dk_4 (dk_at dksX35_add_0 15 rfl rfl)
theorem dX35_add_16 : decode cX35_add 16 = .ok (.iadd, 1) := dk_96 (dk_at dksX35_add_0 16 rfl rfl)
theorem dX35_add_17 : decode cX35_add 17 = .ok (.putfield 13, 3) := dk_181 0 13 (dk_at dksX35_add_0 17 rfl rfl)
theorem dX35_add_20 : decode cX35_add 20 = .ok (.return_, 1) := dk_177 (dk_at dksX35_add_0 20 rfl rfl)
abbrev cX35_first : ByteArray := prog_26_method_3_code
def yX35_first : MethodName := ⟨RX35, "first", "()I"⟩
def dkwX35_first_0 : List UInt8 := [42, 180, 0, 7, 3, 46, 172]
abbrev dktX35_first_0 : List UInt8 := dkwX35_first_0 ++ []
theorem dksX35_first_0 : cX35_first.data.toList.drop 0 = dktX35_first_0 := by decide +kernel
theorem dX35_first_0 : decode cX35_first 0 = .ok (.aload_n 0, 1) := dk_42 (dk_at dksX35_first_0 0 rfl rfl)
theorem dX35_first_1 : decode cX35_first 1 = .ok (.getfield 7, 3) := dk_180 0 7 (dk_at dksX35_first_0 1 rfl rfl)
theorem dX35_first_4 : decode cX35_first 4 = .ok (.iconst 0, 1) := dk_3 (dk_at dksX35_first_0 4 rfl rfl)
theorem dX35_first_5 : decode cX35_first 5 = .ok (.iaload, 1) := dk_46 (dk_at dksX35_first_0 5 rfl rfl)
theorem dX35_first_6 : decode cX35_first 6 = .ok (.ireturn, 1) := dk_172 (dk_at dksX35_first_0 6 rfl rfl)
theorem q551 : (Jvm.Cond.initialized "LibraryDesk$Row") ∈ lw_all := lw_g (lw_at lw_m1 44 rfl) rfl
theorem q1150 : (Jvm.Cond.privateMethod ({ cls := "LibraryDesk$Row", name := "has", desc := "(I)Z" } : Jvm.MethodName)) ∈ lw_tbl := lw_at lw_m3 163 rfl
theorem q1151 : (Jvm.Cond.instanceMethod ({ cls := "LibraryDesk$Row", name := "has", desc := "(I)Z" } : Jvm.MethodName)) ∈ lw_all := lw_g (lw_at lw_m3 164 rfl) rfl
theorem q1152 : (Jvm.Cond.instantiable "LibraryDesk$Row" (2 : Nat)) ∈ lw_all := lw_g (lw_at lw_m3 165 rfl) rfl
theorem q1153 : (Jvm.Cond.code ({ cls := "LibraryDesk$Row", name := "has", desc := "(I)Z" } : Jvm.MethodName) prog_26_method_5_code (3 : Nat) (Option.some Jvm.ClassFile.FieldType.boolean)) ∈ lw_all := lw_g (lw_at lw_m3 166 rfl) rfl
theorem q1825 : (Jvm.Cond.instanceMethod ({ cls := "LibraryDesk$Row", name := "<init>", desc := "()V" } : Jvm.MethodName)) ∈ lw_all := lw_g (lw_at lw_m6 118 rfl) rfl
theorem q1826 : (Jvm.Cond.code ({ cls := "LibraryDesk$Row", name := "<init>", desc := "()V" } : Jvm.MethodName) prog_26_method_1_code (1 : Nat) (Option.none : Option Jvm.ClassFile.FieldType)) ∈ lw_all := lw_g (lw_at lw_m6 119 rfl) rfl
theorem q1827 : (Jvm.Cond.methodLink "LibraryDesk$Row" (1 : Nat) ({ cls := "java/lang/Object", name := "<init>", desc := "()V" } : Jvm.MethodName)) ∈ lw_all := lw_g (lw_at lw_m6 120 rfl) rfl
theorem q1828 : (Jvm.Cond.fieldLink "LibraryDesk$Row" (7 : Nat) "LibraryDesk$Row" "thread" "[I") ∈ lw_all := lw_g (lw_at lw_m6 121 rfl) rfl
theorem q1830 : (Jvm.Cond.fieldLink "LibraryDesk$Row" (13 : Nat) "LibraryDesk$Row" "size" "I") ∈ lw_all := lw_g (lw_at lw_m6 123 rfl) rfl
theorem q1834 : (Jvm.Cond.laysFinal "LibraryDesk$Row" "LibraryDesk$Row" "thread" "[I") ∈ lw_all := lw_g (lw_at lw_m6 127 rfl) rfl
theorem q1835 : (Jvm.Cond.soleField "LibraryDesk$Row" "thread") ∈ lw_all := lw_g (lw_at lw_m6 128 rfl) rfl
theorem q1836 : (Jvm.Cond.lays "LibraryDesk$Row" "LibraryDesk$Row" "size" "I") ∈ lw_all := lw_g (lw_at lw_m6 129 rfl) rfl
theorem q1837 : (Jvm.Cond.soleField "LibraryDesk$Row" "size") ∈ lw_all := lw_g (lw_at lw_m6 130 rfl) rfl
theorem q1838 : (Jvm.Cond.superclass "LibraryDesk$Row" "java/lang/Object") ∈ lw_all := lw_g (lw_at lw_m6 131 rfl) rfl
theorem q4238 : (Jvm.Cond.privateMethod ({ cls := "LibraryDesk$Row", name := "remove", desc := "(I)V" } : Jvm.MethodName)) ∈ lw_tbl := lw_at lw_m16 131 rfl
theorem q4239 : (Jvm.Cond.instanceMethod ({ cls := "LibraryDesk$Row", name := "remove", desc := "(I)V" } : Jvm.MethodName)) ∈ lw_all := lw_g (lw_at lw_m16 132 rfl) rfl
theorem q4240 : (Jvm.Cond.code ({ cls := "LibraryDesk$Row", name := "remove", desc := "(I)V" } : Jvm.MethodName) prog_26_method_4_code (4 : Nat) (Option.none : Option Jvm.ClassFile.FieldType)) ∈ lw_all := lw_g (lw_at lw_m16 133 rfl) rfl
theorem q4254 : (Jvm.Cond.privateMethod ({ cls := "LibraryDesk$Row", name := "add", desc := "(I)V" } : Jvm.MethodName)) ∈ lw_tbl := lw_at lw_m16 147 rfl
theorem q4255 : (Jvm.Cond.instanceMethod ({ cls := "LibraryDesk$Row", name := "add", desc := "(I)V" } : Jvm.MethodName)) ∈ lw_all := lw_g (lw_at lw_m16 148 rfl) rfl
theorem q4256 : (Jvm.Cond.code ({ cls := "LibraryDesk$Row", name := "add", desc := "(I)V" } : Jvm.MethodName) prog_26_method_2_code (2 : Nat) (Option.none : Option Jvm.ClassFile.FieldType)) ∈ lw_all := lw_g (lw_at lw_m16 149 rfl) rfl
theorem q4270 : (Jvm.Cond.privateMethod ({ cls := "LibraryDesk$Row", name := "first", desc := "()I" } : Jvm.MethodName)) ∈ lw_tbl := lw_at lw_m16 163 rfl
theorem q4271 : (Jvm.Cond.instanceMethod ({ cls := "LibraryDesk$Row", name := "first", desc := "()I" } : Jvm.MethodName)) ∈ lw_all := lw_g (lw_at lw_m16 164 rfl) rfl
theorem q4272 : (Jvm.Cond.code ({ cls := "LibraryDesk$Row", name := "first", desc := "()I" } : Jvm.MethodName) prog_26_method_3_code (1 : Nat) (Option.some Jvm.ClassFile.FieldType.int)) ∈ lw_all := lw_g (lw_at lw_m16 165 rfl) rfl
theorem q6143 : (Jvm.Cond.castable "LibraryDesk$Row" "java/lang/Object") ∈ lw_tbl := lw_at lw_m24 116 rfl
theorem in_X35 : ∀ w ∈ wsX350, w ∈ lw_all := lw_in wsX350 [1834, 1836] (by decide +kernel) (by decide +kernel)

/-! LibraryDesk$Orders -/
set_option maxRecDepth 100000
def RX36 : String := "LibraryDesk$Orders"
abbrev cX36_compare : ByteArray := prog_19_method_3_code
def yX36_compare : MethodName := ⟨RX36, "compare", "(III)I"⟩
def dkwX36_compare_5 : List UInt8 := [184, 0, 13, 28, 16, 10, 184, 0, 13, 184, 0, 7, 172]
abbrev dktX36_compare_5 : List UInt8 := dkwX36_compare_5 ++ []
def dkwX36_compare_4 : List UInt8 := [22, 5, 148, 156, 0, 7, 2, 167, 0, 12, 4, 167, 0, 8, 27, 28, 184, 0, 7, 172, 27, 16, 10]
abbrev dktX36_compare_4 : List UInt8 := dkwX36_compare_4 ++ dktX36_compare_5
def dkwX36_compare_3 : List UInt8 := [66, 28, 156, 0, 9, 28, 133, 117, 167, 0, 5, 28, 133, 55, 5, 33, 22, 5, 148, 153, 0, 18, 33]
abbrev dktX36_compare_3 : List UInt8 := dkwX36_compare_3 ++ dktX36_compare_4
def dkwX36_compare_2 : List UInt8 := [27, 28, 184, 0, 7, 172, 28, 27, 184, 0, 7, 172, 27, 156, 0, 9, 27, 133, 117, 167, 0, 5, 27, 133]
abbrev dktX36_compare_2 : List UInt8 := dkwX36_compare_2 ++ dktX36_compare_3
def dkwX36_compare_1 : List UInt8 := [170, 0, 0, 0, 0, 0, 94, 0, 0, 0, 0, 0, 0, 0, 2, 0, 0, 0, 27, 0, 0, 0, 33, 0, 0, 0, 39]
abbrev dktX36_compare_1 : List UInt8 := dkwX36_compare_1 ++ dktX36_compare_2
def dkwX36_compare_0 : List UInt8 := [26]
abbrev dktX36_compare_0 : List UInt8 := dkwX36_compare_0 ++ dktX36_compare_1
theorem dksX36_compare_0 : cX36_compare.data.toList.drop 0 = dktX36_compare_0 := by decide +kernel
theorem dksX36_compare_1 : cX36_compare.data.toList.drop 1 = dktX36_compare_1 := dk_seg dksX36_compare_0 1 rfl rfl
theorem dksX36_compare_2 : cX36_compare.data.toList.drop 28 = dktX36_compare_2 := dk_seg dksX36_compare_1 27 rfl rfl
theorem dksX36_compare_3 : cX36_compare.data.toList.drop 52 = dktX36_compare_3 := dk_seg dksX36_compare_2 24 rfl rfl
theorem dksX36_compare_4 : cX36_compare.data.toList.drop 75 = dktX36_compare_4 := dk_seg dksX36_compare_3 23 rfl rfl
theorem dksX36_compare_5 : cX36_compare.data.toList.drop 98 = dktX36_compare_5 := dk_seg dksX36_compare_4 23 rfl rfl
theorem dX36_compare_0 : decode cX36_compare 0 = .ok (.iload_n 0, 1) := dk_26 (dk_at dksX36_compare_0 0 rfl rfl)
theorem dX36_compare_1 : decode cX36_compare 1 = .ok (.tableswitch 94 0 2 #[27, 33, 39], 27) := by decide +kernel
theorem dX36_compare_28 : decode cX36_compare 28 = .ok (.iload_n 1, 1) := dk_27 (dk_at dksX36_compare_2 0 rfl rfl)
theorem dX36_compare_29 : decode cX36_compare 29 = .ok (.iload_n 2, 1) := dk_28 (dk_at dksX36_compare_2 1 rfl rfl)
theorem dX36_compare_30 : decode cX36_compare 30 = .ok (.invokestatic 7, 3) := dk_184 0 7 (dk_at dksX36_compare_2 2 rfl rfl)
theorem dX36_compare_33 : decode cX36_compare 33 = .ok (.ireturn, 1) := dk_172 (dk_at dksX36_compare_2 5 rfl rfl)
theorem dX36_compare_34 : decode cX36_compare 34 = .ok (.iload_n 2, 1) := dk_28 (dk_at dksX36_compare_2 6 rfl rfl)
theorem dX36_compare_35 : decode cX36_compare 35 = .ok (.iload_n 1, 1) := dk_27 (dk_at dksX36_compare_2 7 rfl rfl)
theorem dX36_compare_36 : decode cX36_compare 36 = .ok (.invokestatic 7, 3) := dk_184 0 7 (dk_at dksX36_compare_2 8 rfl rfl)
theorem dX36_compare_39 : decode cX36_compare 39 = .ok (.ireturn, 1) := dk_172 (dk_at dksX36_compare_2 11 rfl rfl)
theorem dX36_compare_40 : decode cX36_compare 40 = .ok (.iload_n 1, 1) := dk_27 (dk_at dksX36_compare_2 12 rfl rfl)
theorem dX36_compare_41 : decode cX36_compare 41 = .ok (.ifCond .ge 9, 3) := dk_156 0 9 (dk_at dksX36_compare_2 13 rfl rfl)
theorem dX36_compare_44 : decode cX36_compare 44 = .ok (.iload_n 1, 1) := dk_27 (dk_at dksX36_compare_2 16 rfl rfl)
theorem dX36_compare_45 : decode cX36_compare 45 = .ok (.i2l, 1) := dk_133 (dk_at dksX36_compare_2 17 rfl rfl)
theorem dX36_compare_46 : decode cX36_compare 46 = .ok (.lneg, 1) := dk_117 (dk_at dksX36_compare_2 18 rfl rfl)
theorem dX36_compare_47 : decode cX36_compare 47 = .ok (.goto 5, 3) := dk_167 0 5 (dk_at dksX36_compare_2 19 rfl rfl)
theorem dX36_compare_50 : decode cX36_compare 50 = .ok (.iload_n 1, 1) := dk_27 (dk_at dksX36_compare_2 22 rfl rfl)
theorem dX36_compare_51 : decode cX36_compare 51 = .ok (.i2l, 1) := dk_133 (dk_at dksX36_compare_2 23 rfl rfl)
theorem dX36_compare_52 : decode cX36_compare 52 = .ok (.lstore_n 3, 1) := dk_66 (dk_at dksX36_compare_3 0 rfl rfl)
theorem dX36_compare_53 : decode cX36_compare 53 = .ok (.iload_n 2, 1) := dk_28 (dk_at dksX36_compare_3 1 rfl rfl)
theorem dX36_compare_54 : decode cX36_compare 54 = .ok (.ifCond .ge 9, 3) := dk_156 0 9 (dk_at dksX36_compare_3 2 rfl rfl)
theorem dX36_compare_57 : decode cX36_compare 57 = .ok (.iload_n 2, 1) := dk_28 (dk_at dksX36_compare_3 5 rfl rfl)
theorem dX36_compare_58 : decode cX36_compare 58 = .ok (.i2l, 1) := dk_133 (dk_at dksX36_compare_3 6 rfl rfl)
theorem dX36_compare_59 : decode cX36_compare 59 = .ok (.lneg, 1) := dk_117 (dk_at dksX36_compare_3 7 rfl rfl)
theorem dX36_compare_60 : decode cX36_compare 60 = .ok (.goto 5, 3) := dk_167 0 5 (dk_at dksX36_compare_3 8 rfl rfl)
theorem dX36_compare_63 : decode cX36_compare 63 = .ok (.iload_n 2, 1) := dk_28 (dk_at dksX36_compare_3 11 rfl rfl)
theorem dX36_compare_64 : decode cX36_compare 64 = .ok (.i2l, 1) := dk_133 (dk_at dksX36_compare_3 12 rfl rfl)
theorem dX36_compare_65 : decode cX36_compare 65 = .ok (.lstore 5, 2) := dk_55 5 (dk_at dksX36_compare_3 13 rfl rfl)
theorem dX36_compare_67 : decode cX36_compare 67 = .ok (.lload_n 3, 1) := dk_33 (dk_at dksX36_compare_3 15 rfl rfl)
theorem dX36_compare_68 : decode cX36_compare 68 = .ok (.lload 5, 2) := dk_22 5 (dk_at dksX36_compare_3 16 rfl rfl)
theorem dX36_compare_70 : decode cX36_compare 70 = .ok (.lcmp, 1) := dk_148 (dk_at dksX36_compare_3 18 rfl rfl)
theorem dX36_compare_71 : decode cX36_compare 71 = .ok (.ifCond .eq 18, 3) := dk_153 0 18 (dk_at dksX36_compare_3 19 rfl rfl)
theorem dX36_compare_74 : decode cX36_compare 74 = .ok (.lload_n 3, 1) := dk_33 (dk_at dksX36_compare_3 22 rfl rfl)
theorem dX36_compare_75 : decode cX36_compare 75 = .ok (.lload 5, 2) := dk_22 5 (dk_at dksX36_compare_4 0 rfl rfl)
theorem dX36_compare_77 : decode cX36_compare 77 = .ok (.lcmp, 1) := dk_148 (dk_at dksX36_compare_4 2 rfl rfl)
theorem dX36_compare_78 : decode cX36_compare 78 = .ok (.ifCond .ge 7, 3) := dk_156 0 7 (dk_at dksX36_compare_4 3 rfl rfl)
theorem dX36_compare_81 : decode cX36_compare 81 = .ok (.iconst (-1), 1) := dk_2 (dk_at dksX36_compare_4 6 rfl rfl)
theorem dX36_compare_82 : decode cX36_compare 82 = .ok (.goto 12, 3) := dk_167 0 12 (dk_at dksX36_compare_4 7 rfl rfl)
theorem dX36_compare_85 : decode cX36_compare 85 = .ok (.iconst 1, 1) := dk_4 (dk_at dksX36_compare_4 10 rfl rfl)
theorem dX36_compare_86 : decode cX36_compare 86 = .ok (.goto 8, 3) := dk_167 0 8 (dk_at dksX36_compare_4 11 rfl rfl)
theorem dX36_compare_89 : decode cX36_compare 89 = .ok (.iload_n 1, 1) := dk_27 (dk_at dksX36_compare_4 14 rfl rfl)
theorem dX36_compare_90 : decode cX36_compare 90 = .ok (.iload_n 2, 1) := dk_28 (dk_at dksX36_compare_4 15 rfl rfl)
theorem dX36_compare_91 : decode cX36_compare 91 = .ok (.invokestatic 7, 3) := dk_184 0 7 (dk_at dksX36_compare_4 16 rfl rfl)
theorem dX36_compare_94 : decode cX36_compare 94 = .ok (.ireturn, 1) := dk_172 (dk_at dksX36_compare_4 19 rfl rfl)
theorem dX36_compare_95 : decode cX36_compare 95 = .ok (.iload_n 1, 1) := dk_27 (dk_at dksX36_compare_4 20 rfl rfl)
theorem dX36_compare_96 : decode cX36_compare 96 = .ok (.bipush 10, 2) := dk_16 10 (dk_at dksX36_compare_4 21 rfl rfl)
theorem dX36_compare_98 : decode cX36_compare 98 = .ok (.invokestatic 13, 3) := dk_184 0 13 (dk_at dksX36_compare_5 0 rfl rfl)
theorem dX36_compare_101 : decode cX36_compare 101 = .ok (.iload_n 2, 1) := dk_28 (dk_at dksX36_compare_5 3 rfl rfl)
theorem dX36_compare_102 : decode cX36_compare 102 = .ok (.bipush 10, 2) := dk_16 10 (dk_at dksX36_compare_5 4 rfl rfl)
theorem dX36_compare_104 : decode cX36_compare 104 = .ok (.invokestatic 13, 3) := dk_184 0 13 (dk_at dksX36_compare_5 6 rfl rfl)
theorem dX36_compare_107 : decode cX36_compare 107 = .ok (.invokestatic 7, 3) := dk_184 0 7 (dk_at dksX36_compare_5 9 rfl rfl)
theorem dX36_compare_110 : decode cX36_compare 110 = .ok (.ireturn, 1) := dk_172 (dk_at dksX36_compare_5 12 rfl rfl)
abbrev cX36_rising : ByteArray := prog_19_method_2_code
def yX36_rising : MethodName := ⟨RX36, "rising", "(II)I"⟩
def dkwX36_rising_0 : List UInt8 := [26, 27, 162, 0, 7, 2, 167, 0, 13, 26, 27, 164, 0, 7, 4, 167, 0, 4, 3, 172]
abbrev dktX36_rising_0 : List UInt8 := dkwX36_rising_0 ++ []
theorem dksX36_rising_0 : cX36_rising.data.toList.drop 0 = dktX36_rising_0 := by decide +kernel
theorem dX36_rising_0 : decode cX36_rising 0 = .ok (.iload_n 0, 1) := dk_26 (dk_at dksX36_rising_0 0 rfl rfl)
theorem dX36_rising_1 : decode cX36_rising 1 = .ok (.iload_n 1, 1) := dk_27 (dk_at dksX36_rising_0 1 rfl rfl)
theorem dX36_rising_2 : decode cX36_rising 2 = .ok (.if_icmp .ge 7, 3) := dk_162 0 7 (dk_at dksX36_rising_0 2 rfl rfl)
theorem dX36_rising_5 : decode cX36_rising 5 = .ok (.iconst (-1), 1) := dk_2 (dk_at dksX36_rising_0 5 rfl rfl)
theorem dX36_rising_6 : decode cX36_rising 6 = .ok (.goto 13, 3) := dk_167 0 13 (dk_at dksX36_rising_0 6 rfl rfl)
theorem dX36_rising_9 : decode cX36_rising 9 = .ok (.iload_n 0, 1) := dk_26 (dk_at dksX36_rising_0 9 rfl rfl)
theorem dX36_rising_10 : decode cX36_rising 10 = .ok (.iload_n 1, 1) := dk_27 (dk_at dksX36_rising_0 10 rfl rfl)
theorem dX36_rising_11 : decode cX36_rising 11 = .ok (.if_icmp .le 7, 3) := dk_164 0 7 (dk_at dksX36_rising_0 11 rfl rfl)
theorem dX36_rising_14 : decode cX36_rising 14 = .ok (.iconst 1, 1) := dk_4 (dk_at dksX36_rising_0 14 rfl rfl)
theorem dX36_rising_15 : decode cX36_rising 15 = .ok (.goto 4, 3) := dk_167 0 4 (dk_at dksX36_rising_0 15 rfl rfl)
theorem dX36_rising_18 : decode cX36_rising 18 = .ok (.iconst 0, 1) := dk_3 (dk_at dksX36_rising_0 18 rfl rfl)
theorem dX36_rising_19 : decode cX36_rising 19 = .ok (.ireturn, 1) := dk_172 (dk_at dksX36_rising_0 19 rfl rfl)
theorem q554 : (Jvm.Cond.initialized "LibraryDesk$Orders") ∈ lw_all := lw_g (lw_at lw_m1 47 rfl) rfl
theorem q2135 : (Jvm.Cond.static ({ cls := "LibraryDesk$Orders", name := "compare", desc := "(III)I" } : Jvm.MethodName)) ∈ lw_all := lw_g (lw_at lw_m7 188 rfl) rfl
theorem q2136 : (Jvm.Cond.code ({ cls := "LibraryDesk$Orders", name := "compare", desc := "(III)I" } : Jvm.MethodName) prog_19_method_3_code (7 : Nat) (Option.some Jvm.ClassFile.FieldType.int)) ∈ lw_all := lw_g (lw_at lw_m7 189 rfl) rfl
theorem q2137 : (Jvm.Cond.methodLink "LibraryDesk$Orders" (7 : Nat) ({ cls := "LibraryDesk$Orders", name := "rising", desc := "(II)I" } : Jvm.MethodName)) ∈ lw_all := lw_g (lw_at lw_m7 190 rfl) rfl
theorem q2138 : (Jvm.Cond.static ({ cls := "LibraryDesk$Orders", name := "rising", desc := "(II)I" } : Jvm.MethodName)) ∈ lw_all := lw_g (lw_at lw_m7 191 rfl) rfl
theorem q2139 : (Jvm.Cond.code ({ cls := "LibraryDesk$Orders", name := "rising", desc := "(II)I" } : Jvm.MethodName) prog_19_method_2_code (2 : Nat) (Option.some Jvm.ClassFile.FieldType.int)) ∈ lw_all := lw_g (lw_at lw_m7 192 rfl) rfl
theorem q2140 : (Jvm.Cond.methodLinkNest "LibraryDesk$Orders" (13 : Nat) ({ cls := "LibraryDesk", name := "mod", desc := "(II)I" } : Jvm.MethodName) "LibraryDesk") ∈ lw_tbl := lw_at lw_m7 193 rfl

/-! LibraryDesk$Near -/
set_option maxRecDepth 100000
def RX37 : String := "LibraryDesk$Nea\x72"
abbrev cX37_compare : ByteArray := prog_17_method_2_code
def yX37_compare : MethodName := ⟨RX37, "compare", "(LLibraryDesk$Maps;II)I"⟩
def dkwX37_compare_1 : List UInt8 := [27, 28, 182, 0, 23, 172]
abbrev dktX37_compare_1 : List UInt8 := dkwX37_compare_1 ++ []
def dkwX37_compare_0 : List UInt8 := [42, 182, 0, 9, 7, 160, 0, 15, 42, 192, 0, 15, 27, 28, 182, 0, 17, 167, 0, 12, 42, 192, 0, 21]
abbrev dktX37_compare_0 : List UInt8 := dkwX37_compare_0 ++ dktX37_compare_1
theorem dksX37_compare_0 : cX37_compare.data.toList.drop 0 = dktX37_compare_0 := by decide +kernel
theorem dksX37_compare_1 : cX37_compare.data.toList.drop 24 = dktX37_compare_1 := dk_seg dksX37_compare_0 24 rfl rfl
theorem dX37_compare_0 : decode cX37_compare 0 = .ok (.aload_n 0, 1) := dk_42 (dk_at dksX37_compare_0 0 rfl rfl)
theorem dX37_compare_1 : decode cX37_compare 1 = .ok (.invokevirtual 9, 3) := dk_182 0 9 (dk_at dksX37_compare_0 1 rfl rfl)
theorem dX37_compare_4 : decode cX37_compare 4 = .ok (.iconst 4, 1) := dk_7 (dk_at dksX37_compare_0 4 rfl rfl)
theorem dX37_compare_5 : decode cX37_compare 5 = .ok (.if_icmp .ne 15, 3) := dk_160 0 15 (dk_at dksX37_compare_0 5 rfl rfl)
theorem dX37_compare_8 : decode cX37_compare 8 = .ok (.aload_n 0, 1) := dk_42 (dk_at dksX37_compare_0 8 rfl rfl)
theorem dX37_compare_9 : decode cX37_compare 9 = .ok (.checkcast 15, 3) := dk_192 0 15 (dk_at dksX37_compare_0 9 rfl rfl)
theorem dX37_compare_12 : decode cX37_compare 12 = .ok (.iload_n 1, 1) := dk_27 (dk_at dksX37_compare_0 12 rfl rfl)
theorem dX37_compare_13 : decode cX37_compare 13 = .ok (.iload_n 2, 1) := dk_28 (dk_at dksX37_compare_0 13 rfl rfl)
theorem dX37_compare_14 : decode cX37_compare 14 = .ok (.invokevirtual 17, 3) := dk_182 0 17 (dk_at dksX37_compare_0 14 rfl rfl)
theorem dX37_compare_17 : decode cX37_compare 17 = .ok (.goto 12, 3) := dk_167 0 12 (dk_at dksX37_compare_0 17 rfl rfl)
theorem dX37_compare_20 : decode cX37_compare 20 = .ok (.aload_n 0, 1) := dk_42 (dk_at dksX37_compare_0 20 rfl rfl)
theorem dX37_compare_21 : decode cX37_compare 21 = .ok (.checkcast 21, 3) := dk_192 0 21 (dk_at dksX37_compare_0 21 rfl rfl)
theorem dX37_compare_24 : decode cX37_compare 24 = .ok (.iload_n 1, 1) := dk_27 (dk_at dksX37_compare_1 0 rfl rfl)
theorem dX37_compare_25 : decode cX37_compare 25 = .ok (.iload_n 2, 1) := dk_28 (dk_at dksX37_compare_1 1 rfl rfl)
theorem dX37_compare_26 : decode cX37_compare 26 = .ok (.invokevirtual 23, 3) := dk_182 0 23 (dk_at dksX37_compare_1 2 rfl rfl)
theorem dX37_compare_29 : decode cX37_compare 29 = .ok (.ireturn, 1) := dk_172 (dk_at dksX37_compare_1 5 rfl rfl)
abbrev cX37_rank : ByteArray := prog_17_method_4_code
def yX37_rank : MethodName := ⟨RX37, "rank", "(LLibraryDesk$Maps;I)I"⟩
def dkwX37_rank_1 : List UInt8 := [132, 2, 1, 42, 29, 182, 0, 64, 62, 167, 255, 230, 28, 172]
abbrev dktX37_rank_1 : List UInt8 := dkwX37_rank_1 ++ []
def dkwX37_rank_0 : List UInt8 := [3, 61, 42, 182, 0, 55, 62, 29, 155, 0, 28, 42, 42, 29, 182, 0, 58, 27, 184, 0, 59, 156, 0, 15]
abbrev dktX37_rank_0 : List UInt8 := dkwX37_rank_0 ++ dktX37_rank_1
theorem dksX37_rank_0 : cX37_rank.data.toList.drop 0 = dktX37_rank_0 := by decide +kernel
theorem dksX37_rank_1 : cX37_rank.data.toList.drop 24 = dktX37_rank_1 := dk_seg dksX37_rank_0 24 rfl rfl
theorem dX37_rank_0 : decode cX37_rank 0 = .ok (.iconst 0, 1) := dk_3 (dk_at dksX37_rank_0 0 rfl rfl)
theorem dX37_rank_1 : decode cX37_rank 1 = .ok (.istore_n 2, 1) := dk_61 (dk_at dksX37_rank_0 1 rfl rfl)
theorem dX37_rank_2 : decode cX37_rank 2 = .ok (.aload_n 0, 1) := dk_42 (dk_at dksX37_rank_0 2 rfl rfl)
theorem dX37_rank_3 : decode cX37_rank 3 = .ok (.invokevirtual 55, 3) := dk_182 0 55 (dk_at dksX37_rank_0 3 rfl rfl)
theorem dX37_rank_6 : decode cX37_rank 6 = .ok (.istore_n 3, 1) := dk_62 (dk_at dksX37_rank_0 6 rfl rfl)
theorem dX37_rank_7 : decode cX37_rank 7 = .ok (.iload_n 3, 1) := dk_29 (dk_at dksX37_rank_0 7 rfl rfl)
theorem dX37_rank_8 : decode cX37_rank 8 = .ok (.ifCond .lt 28, 3) := dk_155 0 28 (dk_at dksX37_rank_0 8 rfl rfl)
theorem dX37_rank_11 : decode cX37_rank 11 = .ok (.aload_n 0, 1) := dk_42 (dk_at dksX37_rank_0 11 rfl rfl)
theorem dX37_rank_12 : decode cX37_rank 12 = .ok (.aload_n 0, 1) := dk_42 (dk_at dksX37_rank_0 12 rfl rfl)
theorem dX37_rank_13 : decode cX37_rank 13 = .ok (.iload_n 3, 1) := dk_29 (dk_at dksX37_rank_0 13 rfl rfl)
theorem dX37_rank_14 : decode cX37_rank 14 = .ok (.invokevirtual 58, 3) := dk_182 0 58 (dk_at dksX37_rank_0 14 rfl rfl)
theorem dX37_rank_17 : decode cX37_rank 17 = .ok (.iload_n 1, 1) := dk_27 (dk_at dksX37_rank_0 17 rfl rfl)
theorem dX37_rank_18 : decode cX37_rank 18 = .ok (.invokestatic 59, 3) := dk_184 0 59 (dk_at dksX37_rank_0 18 rfl rfl)
theorem dX37_rank_21 : decode cX37_rank 21 = .ok (.ifCond .ge 15, 3) := dk_156 0 15 (dk_at dksX37_rank_0 21 rfl rfl)
theorem dX37_rank_24 : decode cX37_rank 24 = .ok (.iinc 2 1, 3) := dk_132 2 1 (dk_at dksX37_rank_1 0 rfl rfl)
theorem dX37_rank_27 : decode cX37_rank 27 = .ok (.aload_n 0, 1) := dk_42 (dk_at dksX37_rank_1 3 rfl rfl)
theorem dX37_rank_28 : decode cX37_rank 28 = .ok (.iload_n 3, 1) := dk_29 (dk_at dksX37_rank_1 4 rfl rfl)
theorem dX37_rank_29 : decode cX37_rank 29 = .ok (.invokevirtual 64, 3) := dk_182 0 64 (dk_at dksX37_rank_1 5 rfl rfl)
theorem dX37_rank_32 : decode cX37_rank 32 = .ok (.istore_n 3, 1) := dk_62 (dk_at dksX37_rank_1 8 rfl rfl)
theorem dX37_rank_33 : decode cX37_rank 33 = .ok (.goto (-26), 3) := dk_167 255 230 (dk_at dksX37_rank_1 9 rfl rfl)
theorem dX37_rank_36 : decode cX37_rank 36 = .ok (.iload_n 2, 1) := dk_28 (dk_at dksX37_rank_1 12 rfl rfl)
theorem dX37_rank_37 : decode cX37_rank 37 = .ok (.ireturn, 1) := dk_172 (dk_at dksX37_rank_1 13 rfl rfl)
abbrev cX37_nearest : ByteArray := prog_17_method_3_code
def yX37_nearest : MethodName := ⟨RX37, "nearest", "(LLibraryDesk$Maps;II)J"⟩
def dkwX37_nearest_11 : List UInt8 := [54, 10, 21, 10, 153, 0, 13, 45, 21, 7, 182, 0, 41, 133, 167, 0, 6, 20, 0, 39, 173]
abbrev dktX37_nearest_11 : List UInt8 := dkwX37_nearest_11 ++ []
def dkwX37_nearest_10 : List UInt8 := [167, 0, 23, 21, 9, 157, 0, 13, 21, 9, 154, 0, 12, 21, 6, 154, 0, 7, 4, 167, 0, 4, 3]
abbrev dktX37_nearest_10 : List UInt8 := dkwX37_nearest_10 ++ dktX37_nearest_11
def dkwX37_nearest_9 : List UInt8 := [153, 0, 26, 21, 9, 155, 0, 13, 21, 9, 154, 0, 12, 21, 6, 154, 0, 7, 4, 167, 0, 27, 3]
abbrev dktX37_nearest_9 : List UInt8 := dkwX37_nearest_9 ++ dktX37_nearest_10
def dkwX37_nearest_8 : List UInt8 := [156, 0, 7, 20, 0, 39, 173, 45, 45, 21, 7, 182, 0, 41, 28, 182, 0, 17, 54, 9, 21, 5]
abbrev dktX37_nearest_8 : List UInt8 := dkwX37_nearest_8 ++ dktX37_nearest_9
def dkwX37_nearest_7 : List UInt8 := [21, 5, 153, 0, 11, 25, 8, 182, 0, 49, 167, 0, 8, 25, 8, 182, 0, 52, 54, 7, 21, 7]
abbrev dktX37_nearest_7 : List UInt8 := dkwX37_nearest_7 ++ dktX37_nearest_8
def dkwX37_nearest_6 : List UInt8 := [192, 0, 21, 58, 8, 21, 7, 155, 0, 37, 25, 8, 45, 21, 7, 182, 0, 41, 182, 0, 45, 154, 0, 23]
abbrev dktX37_nearest_6 : List UInt8 := dkwX37_nearest_6 ++ dktX37_nearest_7
def dkwX37_nearest_5 : List UInt8 := [160, 0, 22, 21, 7, 156, 0, 9, 20, 0, 39, 167, 0, 10, 45, 21, 7, 182, 0, 41, 133, 173, 42]
abbrev dktX37_nearest_5 : List UInt8 := dkwX37_nearest_5 ++ dktX37_nearest_6
def dkwX37_nearest_4 : List UInt8 := [28, 21, 6, 182, 0, 32, 167, 0, 10, 45, 28, 21, 6, 182, 0, 36, 54, 7, 42, 182, 0, 9, 7]
abbrev dktX37_nearest_4 : List UInt8 := dkwX37_nearest_4 ++ dktX37_nearest_5
def dkwX37_nearest_3 : List UInt8 := [16, 14, 159, 0, 9, 27, 16, 17, 160, 0, 7, 4, 167, 0, 4, 3, 54, 6, 21, 5, 153, 0, 13, 45]
abbrev dktX37_nearest_3 : List UInt8 := dkwX37_nearest_3 ++ dktX37_nearest_4
def dkwX37_nearest_2 : List UInt8 := [27, 16, 15, 163, 0, 7, 4, 167, 0, 4, 3, 21, 4, 159, 0, 7, 4, 167, 0, 4, 3, 54, 5, 27]
abbrev dktX37_nearest_2 : List UInt8 := dkwX37_nearest_2 ++ dktX37_nearest_3
def dkwX37_nearest_1 : List UInt8 := [182, 0, 9, 7, 159, 0, 17, 42, 192, 0, 21, 180, 0, 28, 153, 0, 7, 4, 167, 0, 4, 3, 54, 4]
abbrev dktX37_nearest_1 : List UInt8 := dkwX37_nearest_1 ++ dktX37_nearest_2
def dkwX37_nearest_0 : List UInt8 := [42, 182, 0, 9, 7, 160, 0, 10, 42, 192, 0, 15, 167, 0, 10, 42, 192, 0, 21, 180, 0, 24, 78, 42]
abbrev dktX37_nearest_0 : List UInt8 := dkwX37_nearest_0 ++ dktX37_nearest_1
theorem dksX37_nearest_0 : cX37_nearest.data.toList.drop 0 = dktX37_nearest_0 := by decide +kernel
theorem dksX37_nearest_1 : cX37_nearest.data.toList.drop 24 = dktX37_nearest_1 := dk_seg dksX37_nearest_0 24 rfl rfl
theorem dksX37_nearest_2 : cX37_nearest.data.toList.drop 48 = dktX37_nearest_2 := dk_seg dksX37_nearest_1 24 rfl rfl
theorem dksX37_nearest_3 : cX37_nearest.data.toList.drop 72 = dktX37_nearest_3 := dk_seg dksX37_nearest_2 24 rfl rfl
theorem dksX37_nearest_4 : cX37_nearest.data.toList.drop 96 = dktX37_nearest_4 := dk_seg dksX37_nearest_3 24 rfl rfl
theorem dksX37_nearest_5 : cX37_nearest.data.toList.drop 119 = dktX37_nearest_5 := dk_seg dksX37_nearest_4 23 rfl rfl
theorem dksX37_nearest_6 : cX37_nearest.data.toList.drop 142 = dktX37_nearest_6 := dk_seg dksX37_nearest_5 23 rfl rfl
theorem dksX37_nearest_7 : cX37_nearest.data.toList.drop 166 = dktX37_nearest_7 := dk_seg dksX37_nearest_6 24 rfl rfl
theorem dksX37_nearest_8 : cX37_nearest.data.toList.drop 188 = dktX37_nearest_8 := dk_seg dksX37_nearest_7 22 rfl rfl
theorem dksX37_nearest_9 : cX37_nearest.data.toList.drop 210 = dktX37_nearest_9 := dk_seg dksX37_nearest_8 22 rfl rfl
theorem dksX37_nearest_10 : cX37_nearest.data.toList.drop 233 = dktX37_nearest_10 := dk_seg dksX37_nearest_9 23 rfl rfl
theorem dksX37_nearest_11 : cX37_nearest.data.toList.drop 256 = dktX37_nearest_11 := dk_seg dksX37_nearest_10 23 rfl rfl
theorem dX37_nearest_0 : decode cX37_nearest 0 = .ok (.aload_n 0, 1) := dk_42 (dk_at dksX37_nearest_0 0 rfl rfl)
theorem dX37_nearest_1 : decode cX37_nearest 1 = .ok (.invokevirtual 9, 3) := dk_182 0 9 (dk_at dksX37_nearest_0 1 rfl rfl)
theorem dX37_nearest_4 : decode cX37_nearest 4 = .ok (.iconst 4, 1) := dk_7 (dk_at dksX37_nearest_0 4 rfl rfl)
theorem dX37_nearest_5 : decode cX37_nearest 5 = .ok (.if_icmp .ne 10, 3) := dk_160 0 10 (dk_at dksX37_nearest_0 5 rfl rfl)
theorem dX37_nearest_8 : decode cX37_nearest 8 = .ok (.aload_n 0, 1) := dk_42 (dk_at dksX37_nearest_0 8 rfl rfl)
theorem dX37_nearest_9 : decode cX37_nearest 9 = .ok (.checkcast 15, 3) := dk_192 0 15 (dk_at dksX37_nearest_0 9 rfl rfl)
theorem dX37_nearest_12 : decode cX37_nearest 12 = .ok (.goto 10, 3) := dk_167 0 10 (dk_at dksX37_nearest_0 12 rfl rfl)
theorem dX37_nearest_15 : decode cX37_nearest 15 = .ok (.aload_n 0, 1) := dk_42 (dk_at dksX37_nearest_0 15 rfl rfl)
theorem dX37_nearest_16 : decode cX37_nearest 16 = .ok (.checkcast 21, 3) := dk_192 0 21 (dk_at dksX37_nearest_0 16 rfl rfl)
theorem dX37_nearest_19 : decode cX37_nearest 19 = .ok (.getfield 24, 3) := dk_180 0 24 (dk_at dksX37_nearest_0 19 rfl rfl)
theorem dX37_nearest_22 : decode cX37_nearest 22 = .ok (.astore_n 3, 1) := dk_78 (dk_at dksX37_nearest_0 22 rfl rfl)
theorem dX37_nearest_23 : decode cX37_nearest 23 = .ok (.aload_n 0, 1) := dk_42 (dk_at dksX37_nearest_0 23 rfl rfl)
theorem dX37_nearest_24 : decode cX37_nearest 24 = .ok (.invokevirtual 9, 3) := dk_182 0 9 (dk_at dksX37_nearest_1 0 rfl rfl)
theorem dX37_nearest_27 : decode cX37_nearest 27 = .ok (.iconst 4, 1) := dk_7 (dk_at dksX37_nearest_1 3 rfl rfl)
theorem dX37_nearest_28 : decode cX37_nearest 28 = .ok (.if_icmp .eq 17, 3) := dk_159 0 17 (dk_at dksX37_nearest_1 4 rfl rfl)
theorem dX37_nearest_31 : decode cX37_nearest 31 = .ok (.aload_n 0, 1) := dk_42 (dk_at dksX37_nearest_1 7 rfl rfl)
theorem dX37_nearest_32 : decode cX37_nearest 32 = .ok (.checkcast 21, 3) := dk_192 0 21 (dk_at dksX37_nearest_1 8 rfl rfl)
theorem dX37_nearest_35 : decode cX37_nearest 35 = .ok (.getfield 28, 3) := dk_180 0 28 (dk_at dksX37_nearest_1 11 rfl rfl)
theorem dX37_nearest_38 : decode cX37_nearest 38 = .ok (.ifCond .eq 7, 3) := dk_153 0 7 (dk_at dksX37_nearest_1 14 rfl rfl)
theorem dX37_nearest_41 : decode cX37_nearest 41 = .ok (.iconst 1, 1) := dk_4 (dk_at dksX37_nearest_1 17 rfl rfl)
theorem dX37_nearest_42 : decode cX37_nearest 42 = .ok (.goto 4, 3) := dk_167 0 4 (dk_at dksX37_nearest_1 18 rfl rfl)
theorem dX37_nearest_45 : decode cX37_nearest 45 = .ok (.iconst 0, 1) := dk_3 (dk_at dksX37_nearest_1 21 rfl rfl)
theorem dX37_nearest_46 : decode cX37_nearest 46 = .ok (.istore 4, 2) := dk_54 4 (dk_at dksX37_nearest_1 22 rfl rfl)
theorem dX37_nearest_48 : decode cX37_nearest 48 = .ok (.iload_n 1, 1) := dk_27 (dk_at dksX37_nearest_2 0 rfl rfl)
theorem dX37_nearest_49 : decode cX37_nearest 49 = .ok (.bipush 15, 2) := dk_16 15 (dk_at dksX37_nearest_2 1 rfl rfl)
theorem dX37_nearest_51 : decode cX37_nearest 51 = .ok (.if_icmp .gt 7, 3) := dk_163 0 7 (dk_at dksX37_nearest_2 3 rfl rfl)
theorem dX37_nearest_54 : decode cX37_nearest 54 = .ok (.iconst 1, 1) := dk_4 (dk_at dksX37_nearest_2 6 rfl rfl)
theorem dX37_nearest_55 : decode cX37_nearest 55 = .ok (.goto 4, 3) := dk_167 0 4 (dk_at dksX37_nearest_2 7 rfl rfl)
theorem dX37_nearest_58 : decode cX37_nearest 58 = .ok (.iconst 0, 1) := dk_3 (dk_at dksX37_nearest_2 10 rfl rfl)
theorem dX37_nearest_59 : decode cX37_nearest 59 = .ok (.iload 4, 2) := dk_21 4 (dk_at dksX37_nearest_2 11 rfl rfl)
theorem dX37_nearest_61 : decode cX37_nearest 61 = .ok (.if_icmp .eq 7, 3) := dk_159 0 7 (dk_at dksX37_nearest_2 13 rfl rfl)
theorem dX37_nearest_64 : decode cX37_nearest 64 = .ok (.iconst 1, 1) := dk_4 (dk_at dksX37_nearest_2 16 rfl rfl)
theorem dX37_nearest_65 : decode cX37_nearest 65 = .ok (.goto 4, 3) := dk_167 0 4 (dk_at dksX37_nearest_2 17 rfl rfl)
theorem dX37_nearest_68 : decode cX37_nearest 68 = .ok (.iconst 0, 1) := dk_3 (dk_at dksX37_nearest_2 20 rfl rfl)
theorem dX37_nearest_69 : decode cX37_nearest 69 = .ok (.istore 5, 2) := dk_54 5 (dk_at dksX37_nearest_2 21 rfl rfl)
theorem dX37_nearest_71 : decode cX37_nearest 71 = .ok (.iload_n 1, 1) := dk_27 (dk_at dksX37_nearest_2 23 rfl rfl)
theorem dX37_nearest_72 : decode cX37_nearest 72 = .ok (.bipush 14, 2) := dk_16 14 (dk_at dksX37_nearest_3 0 rfl rfl)
theorem dX37_nearest_74 : decode cX37_nearest 74 = .ok (.if_icmp .eq 9, 3) := dk_159 0 9 (dk_at dksX37_nearest_3 2 rfl rfl)
theorem dX37_nearest_77 : decode cX37_nearest 77 = .ok (.iload_n 1, 1) := dk_27 (dk_at dksX37_nearest_3 5 rfl rfl)
theorem dX37_nearest_78 : decode cX37_nearest 78 = .ok (.bipush 17, 2) := dk_16 17 (dk_at dksX37_nearest_3 6 rfl rfl)
theorem dX37_nearest_80 : decode cX37_nearest 80 = .ok (.if_icmp .ne 7, 3) := dk_160 0 7 (dk_at dksX37_nearest_3 8 rfl rfl)
theorem dX37_nearest_83 : decode cX37_nearest 83 = .ok (.iconst 1, 1) := dk_4 (dk_at dksX37_nearest_3 11 rfl rfl)
theorem dX37_nearest_84 : decode cX37_nearest 84 = .ok (.goto 4, 3) := dk_167 0 4 (dk_at dksX37_nearest_3 12 rfl rfl)
theorem dX37_nearest_87 : decode cX37_nearest 87 = .ok (.iconst 0, 1) := dk_3 (dk_at dksX37_nearest_3 15 rfl rfl)
theorem dX37_nearest_88 : decode cX37_nearest 88 = .ok (.istore 6, 2) := dk_54 6 (dk_at dksX37_nearest_3 16 rfl rfl)
theorem dX37_nearest_90 : decode cX37_nearest 90 = .ok (.iload 5, 2) := dk_21 5 (dk_at dksX37_nearest_3 18 rfl rfl)
theorem dX37_nearest_92 : decode cX37_nearest 92 = .ok (.ifCond .eq 13, 3) := dk_153 0 13 (dk_at dksX37_nearest_3 20 rfl rfl)
theorem dX37_nearest_95 : decode cX37_nearest 95 = .ok (.aload_n 3, 1) := dk_45 (dk_at dksX37_nearest_3 23 rfl rfl)
theorem dX37_nearest_96 : decode cX37_nearest 96 = .ok (.iload_n 2, 1) := dk_28 (dk_at dksX37_nearest_4 0 rfl rfl)
theorem dX37_nearest_97 : decode cX37_nearest 97 = .ok (.iload 6, 2) := dk_21 6 (dk_at dksX37_nearest_4 1 rfl rfl)
theorem dX37_nearest_99 : decode cX37_nearest 99 = .ok (.invokevirtual 32, 3) := dk_182 0 32 (dk_at dksX37_nearest_4 3 rfl rfl)
theorem dX37_nearest_102 : decode cX37_nearest 102 = .ok (.goto 10, 3) := dk_167 0 10 (dk_at dksX37_nearest_4 6 rfl rfl)
theorem dX37_nearest_105 : decode cX37_nearest 105 = .ok (.aload_n 3, 1) := dk_45 (dk_at dksX37_nearest_4 9 rfl rfl)
theorem dX37_nearest_106 : decode cX37_nearest 106 = .ok (.iload_n 2, 1) := dk_28 (dk_at dksX37_nearest_4 10 rfl rfl)
theorem dX37_nearest_107 : decode cX37_nearest 107 = .ok (.iload 6, 2) := dk_21 6 (dk_at dksX37_nearest_4 11 rfl rfl)
theorem dX37_nearest_109 : decode cX37_nearest 109 = .ok (.invokevirtual 36, 3) := dk_182 0 36 (dk_at dksX37_nearest_4 13 rfl rfl)
theorem dX37_nearest_112 : decode cX37_nearest 112 = .ok (.istore 7, 2) := dk_54 7 (dk_at dksX37_nearest_4 16 rfl rfl)
theorem dX37_nearest_114 : decode cX37_nearest 114 = .ok (.aload_n 0, 1) := dk_42 (dk_at dksX37_nearest_4 18 rfl rfl)
theorem dX37_nearest_115 : decode cX37_nearest 115 = .ok (.invokevirtual 9, 3) := dk_182 0 9 (dk_at dksX37_nearest_4 19 rfl rfl)
theorem dX37_nearest_118 : decode cX37_nearest 118 = .ok (.iconst 4, 1) := dk_7 (dk_at dksX37_nearest_4 22 rfl rfl)
theorem dX37_nearest_119 : decode cX37_nearest 119 = .ok (.if_icmp .ne 22, 3) := dk_160 0 22 (dk_at dksX37_nearest_5 0 rfl rfl)
theorem dX37_nearest_122 : decode cX37_nearest 122 = .ok (.iload 7, 2) := dk_21 7 (dk_at dksX37_nearest_5 3 rfl rfl)
theorem dX37_nearest_124 : decode cX37_nearest 124 = .ok (.ifCond .ge 9, 3) := dk_156 0 9 (dk_at dksX37_nearest_5 5 rfl rfl)
theorem dX37_nearest_127 : decode cX37_nearest 127 = .ok (.ldc2_w 39, 3) := dk_20 0 39 (dk_at dksX37_nearest_5 8 rfl rfl)
theorem dX37_nearest_130 : decode cX37_nearest 130 = .ok (.goto 10, 3) := dk_167 0 10 (dk_at dksX37_nearest_5 11 rfl rfl)
theorem dX37_nearest_133 : decode cX37_nearest 133 = .ok (.aload_n 3, 1) := dk_45 (dk_at dksX37_nearest_5 14 rfl rfl)
theorem dX37_nearest_134 : decode cX37_nearest 134 = .ok (.iload 7, 2) := dk_21 7 (dk_at dksX37_nearest_5 15 rfl rfl)
theorem dX37_nearest_136 : decode cX37_nearest 136 = .ok (.invokevirtual 41, 3) := dk_182 0 41 (dk_at dksX37_nearest_5 17 rfl rfl)
theorem dX37_nearest_139 : decode cX37_nearest 139 = .ok (.i2l, 1) := dk_133 (dk_at dksX37_nearest_5 20 rfl rfl)
theorem dX37_nearest_140 : decode cX37_nearest 140 = .ok (.lreturn, 1) := dk_173 (dk_at dksX37_nearest_5 21 rfl rfl)
theorem dX37_nearest_141 : decode cX37_nearest 141 = .ok (.aload_n 0, 1) := dk_42 (dk_at dksX37_nearest_5 22 rfl rfl)
theorem dX37_nearest_142 : decode cX37_nearest 142 = .ok (.checkcast 21, 3) := dk_192 0 21 (dk_at dksX37_nearest_6 0 rfl rfl)
theorem dX37_nearest_145 : decode cX37_nearest 145 = .ok (.astore 8, 2) := dk_58 8 (dk_at dksX37_nearest_6 3 rfl rfl)
theorem dX37_nearest_147 : decode cX37_nearest 147 = .ok (.iload 7, 2) := dk_21 7 (dk_at dksX37_nearest_6 5 rfl rfl)
theorem dX37_nearest_149 : decode cX37_nearest 149 = .ok (.ifCond .lt 37, 3) := dk_155 0 37 (dk_at dksX37_nearest_6 7 rfl rfl)
theorem dX37_nearest_152 : decode cX37_nearest 152 = .ok (.aload 8, 2) := dk_25 8 (dk_at dksX37_nearest_6 10 rfl rfl)
theorem dX37_nearest_154 : decode cX37_nearest 154 = .ok (.aload_n 3, 1) := dk_45 (dk_at dksX37_nearest_6 12 rfl rfl)
theorem dX37_nearest_155 : decode cX37_nearest 155 = .ok (.iload 7, 2) := dk_21 7 (dk_at dksX37_nearest_6 13 rfl rfl)
theorem dX37_nearest_157 : decode cX37_nearest 157 = .ok (.invokevirtual 41, 3) := dk_182 0 41 (dk_at dksX37_nearest_6 15 rfl rfl)
theorem dX37_nearest_160 : decode cX37_nearest 160 = .ok (.invokevirtual 45, 3) := dk_182 0 45 (dk_at dksX37_nearest_6 18 rfl rfl)
theorem dX37_nearest_163 : decode cX37_nearest 163 = .ok (.ifCond .ne 23, 3) := dk_154 0 23 (dk_at dksX37_nearest_6 21 rfl rfl)
theorem dX37_nearest_166 : decode cX37_nearest 166 = .ok (.iload 5, 2) := dk_21 5 (dk_at dksX37_nearest_7 0 rfl rfl)
theorem dX37_nearest_168 : decode cX37_nearest 168 = .ok (.ifCond .eq 11, 3) := dk_153 0 11 (dk_at dksX37_nearest_7 2 rfl rfl)
theorem dX37_nearest_171 : decode cX37_nearest 171 = .ok (.aload 8, 2) := dk_25 8 (dk_at dksX37_nearest_7 5 rfl rfl)
theorem dX37_nearest_173 : decode cX37_nearest 173 = .ok (.invokevirtual 49, 3) := dk_182 0 49 (dk_at dksX37_nearest_7 7 rfl rfl)
theorem dX37_nearest_176 : decode cX37_nearest 176 = .ok (.goto 8, 3) := dk_167 0 8 (dk_at dksX37_nearest_7 10 rfl rfl)
theorem dX37_nearest_179 : decode cX37_nearest 179 = .ok (.aload 8, 2) := dk_25 8 (dk_at dksX37_nearest_7 13 rfl rfl)
theorem dX37_nearest_181 : decode cX37_nearest 181 = .ok (.invokevirtual 52, 3) := dk_182 0 52 (dk_at dksX37_nearest_7 15 rfl rfl)
theorem dX37_nearest_184 : decode cX37_nearest 184 = .ok (.istore 7, 2) := dk_54 7 (dk_at dksX37_nearest_7 18 rfl rfl)
theorem dX37_nearest_186 : decode cX37_nearest 186 = .ok (.iload 7, 2) := dk_21 7 (dk_at dksX37_nearest_7 20 rfl rfl)
theorem dX37_nearest_188 : decode cX37_nearest 188 = .ok (.ifCond .ge 7, 3) := dk_156 0 7 (dk_at dksX37_nearest_8 0 rfl rfl)
theorem dX37_nearest_191 : decode cX37_nearest 191 = .ok (.ldc2_w 39, 3) := dk_20 0 39 (dk_at dksX37_nearest_8 3 rfl rfl)
theorem dX37_nearest_194 : decode cX37_nearest 194 = .ok (.lreturn, 1) := dk_173 (dk_at dksX37_nearest_8 6 rfl rfl)
theorem dX37_nearest_195 : decode cX37_nearest 195 = .ok (.aload_n 3, 1) := dk_45 (dk_at dksX37_nearest_8 7 rfl rfl)
theorem dX37_nearest_196 : decode cX37_nearest 196 = .ok (.aload_n 3, 1) := dk_45 (dk_at dksX37_nearest_8 8 rfl rfl)
theorem dX37_nearest_197 : decode cX37_nearest 197 = .ok (.iload 7, 2) := dk_21 7 (dk_at dksX37_nearest_8 9 rfl rfl)
theorem dX37_nearest_199 : decode cX37_nearest 199 = .ok (.invokevirtual 41, 3) := dk_182 0 41 (dk_at dksX37_nearest_8 11 rfl rfl)
theorem dX37_nearest_202 : decode cX37_nearest 202 = .ok (.iload_n 2, 1) := dk_28 (dk_at dksX37_nearest_8 14 rfl rfl)
theorem dX37_nearest_203 : decode cX37_nearest 203 = .ok (.invokevirtual 17, 3) := dk_182 0 17 (dk_at dksX37_nearest_8 15 rfl rfl)
theorem dX37_nearest_206 : decode cX37_nearest 206 = .ok (.istore 9, 2) := dk_54 9 (dk_at dksX37_nearest_8 18 rfl rfl)
theorem dX37_nearest_208 : decode cX37_nearest 208 = .ok (.iload 5, 2) := dk_21 5 (dk_at dksX37_nearest_8 20 rfl rfl)
theorem dX37_nearest_210 : decode cX37_nearest 210 = .ok (.ifCond .eq 26, 3) := dk_153 0 26 (dk_at dksX37_nearest_9 0 rfl rfl)
theorem dX37_nearest_213 : decode cX37_nearest 213 = .ok (.iload 9, 2) := dk_21 9 (dk_at dksX37_nearest_9 3 rfl rfl)
theorem dX37_nearest_215 : decode cX37_nearest 215 = .ok (.ifCond .lt 13, 3) := dk_155 0 13 (dk_at dksX37_nearest_9 5 rfl rfl)
theorem dX37_nearest_218 : decode cX37_nearest 218 = .ok (.iload 9, 2) := dk_21 9 (dk_at dksX37_nearest_9 8 rfl rfl)
theorem dX37_nearest_220 : decode cX37_nearest 220 = .ok (.ifCond .ne 12, 3) := dk_154 0 12 (dk_at dksX37_nearest_9 10 rfl rfl)
theorem dX37_nearest_223 : decode cX37_nearest 223 = .ok (.iload 6, 2) := dk_21 6 (dk_at dksX37_nearest_9 13 rfl rfl)
theorem dX37_nearest_225 : decode cX37_nearest 225 = .ok (.ifCond .ne 7, 3) := dk_154 0 7 (dk_at dksX37_nearest_9 15 rfl rfl)
theorem dX37_nearest_228 : decode cX37_nearest 228 = .ok (.iconst 1, 1) := dk_4 (dk_at dksX37_nearest_9 18 rfl rfl)
theorem dX37_nearest_229 : decode cX37_nearest 229 = .ok (.goto 27, 3) := dk_167 0 27 (dk_at dksX37_nearest_9 19 rfl rfl)
theorem dX37_nearest_232 : decode cX37_nearest 232 = .ok (.iconst 0, 1) := dk_3 (dk_at dksX37_nearest_9 22 rfl rfl)
theorem dX37_nearest_233 : decode cX37_nearest 233 = .ok (.goto 23, 3) := dk_167 0 23 (dk_at dksX37_nearest_10 0 rfl rfl)
theorem dX37_nearest_236 : decode cX37_nearest 236 = .ok (.iload 9, 2) := dk_21 9 (dk_at dksX37_nearest_10 3 rfl rfl)
theorem dX37_nearest_238 : decode cX37_nearest 238 = .ok (.ifCond .gt 13, 3) := dk_157 0 13 (dk_at dksX37_nearest_10 5 rfl rfl)
theorem dX37_nearest_241 : decode cX37_nearest 241 = .ok (.iload 9, 2) := dk_21 9 (dk_at dksX37_nearest_10 8 rfl rfl)
theorem dX37_nearest_243 : decode cX37_nearest 243 = .ok (.ifCond .ne 12, 3) := dk_154 0 12 (dk_at dksX37_nearest_10 10 rfl rfl)
theorem dX37_nearest_246 : decode cX37_nearest 246 = .ok (.iload 6, 2) := dk_21 6 (dk_at dksX37_nearest_10 13 rfl rfl)
theorem dX37_nearest_248 : decode cX37_nearest 248 = .ok (.ifCond .ne 7, 3) := dk_154 0 7 (dk_at dksX37_nearest_10 15 rfl rfl)
theorem dX37_nearest_251 : decode cX37_nearest 251 = .ok (.iconst 1, 1) := dk_4 (dk_at dksX37_nearest_10 18 rfl rfl)
theorem dX37_nearest_252 : decode cX37_nearest 252 = .ok (.goto 4, 3) := dk_167 0 4 (dk_at dksX37_nearest_10 19 rfl rfl)
theorem dX37_nearest_255 : decode cX37_nearest 255 = .ok (.iconst 0, 1) := dk_3 (dk_at dksX37_nearest_10 22 rfl rfl)
theorem dX37_nearest_256 : decode cX37_nearest 256 = .ok (.istore 10, 2) := dk_54 10 (dk_at dksX37_nearest_11 0 rfl rfl)
theorem dX37_nearest_258 : decode cX37_nearest 258 = .ok (.iload 10, 2) := dk_21 10 (dk_at dksX37_nearest_11 2 rfl rfl)
theorem dX37_nearest_260 : decode cX37_nearest 260 = .ok (.ifCond .eq 13, 3) := dk_153 0 13 (dk_at dksX37_nearest_11 4 rfl rfl)
theorem dX37_nearest_263 : decode cX37_nearest 263 = .ok (.aload_n 3, 1) := dk_45 (dk_at dksX37_nearest_11 7 rfl rfl)
theorem dX37_nearest_264 : decode cX37_nearest 264 = .ok (.iload 7, 2) := dk_21 7 (dk_at dksX37_nearest_11 8 rfl rfl)
theorem dX37_nearest_266 : decode cX37_nearest 266 = .ok (.invokevirtual 41, 3) := dk_182 0 41 (dk_at dksX37_nearest_11 10 rfl rfl)
theorem dX37_nearest_269 : decode cX37_nearest 269 = .ok (.i2l, 1) := dk_133 (dk_at dksX37_nearest_11 13 rfl rfl)
theorem dX37_nearest_270 : decode cX37_nearest 270 = .ok (.goto 6, 3) := dk_167 0 6 (dk_at dksX37_nearest_11 14 rfl rfl)
theorem dX37_nearest_273 : decode cX37_nearest 273 = .ok (.ldc2_w 39, 3) := dk_20 0 39 (dk_at dksX37_nearest_11 17 rfl rfl)
theorem dX37_nearest_276 : decode cX37_nearest 276 = .ok (.lreturn, 1) := dk_173 (dk_at dksX37_nearest_11 20 rfl rfl)
theorem q560 : (Jvm.Cond.initialized "LibraryDesk$Nea\x72") ∈ lw_all := lw_g (lw_at lw_m1 53 rfl) rfl
theorem q1784 : (Jvm.Cond.fieldLinkNest "LibraryDesk$Nea\x72" (24 : Nat) "LibraryDesk$SubThing" "tree" "LLibraryDesk$TreeThing;" "LibraryDesk") ∈ lw_tbl := lw_at lw_m6 77 rfl
theorem q1788 : (Jvm.Cond.fieldLinkNest "LibraryDesk$Nea\x72" (28 : Nat) "LibraryDesk$SubThing" "turned" "Z" "LibraryDesk") ∈ lw_tbl := lw_at lw_m6 81 rfl
theorem q2749 : (Jvm.Cond.static ({ cls := "LibraryDesk$Nea\x72", name := "compare", desc := "(LLibraryDesk$Maps;II)I" } : Jvm.MethodName)) ∈ lw_all := lw_g (lw_at lw_m10 82 rfl) rfl
theorem q2750 : (Jvm.Cond.code ({ cls := "LibraryDesk$Nea\x72", name := "compare", desc := "(LLibraryDesk$Maps;II)I" } : Jvm.MethodName) prog_17_method_2_code (3 : Nat) (Option.some Jvm.ClassFile.FieldType.int)) ∈ lw_all := lw_g (lw_at lw_m10 83 rfl) rfl
theorem q2751 : (Jvm.Cond.methodLink "LibraryDesk$Nea\x72" (9 : Nat) ({ cls := "LibraryDesk$Maps", name := "kind", desc := "()I" } : Jvm.MethodName)) ∈ lw_all := lw_g (lw_at lw_m10 84 rfl) rfl
theorem q2752 : (Jvm.Cond.classLink "LibraryDesk$Nea\x72" (15 : Nat) "LibraryDesk$TreeThing") ∈ lw_all := lw_g (lw_at lw_m10 85 rfl) rfl
theorem q2753 : (Jvm.Cond.methodLink "LibraryDesk$Nea\x72" (17 : Nat) ({ cls := "LibraryDesk$TreeThing", name := "compare", desc := "(II)I" } : Jvm.MethodName)) ∈ lw_all := lw_g (lw_at lw_m10 86 rfl) rfl
theorem q2754 : (Jvm.Cond.classLink "LibraryDesk$Nea\x72" (21 : Nat) "LibraryDesk$SubThing") ∈ lw_all := lw_g (lw_at lw_m10 87 rfl) rfl
theorem q2755 : (Jvm.Cond.methodLinkNest "LibraryDesk$Nea\x72" (23 : Nat) ({ cls := "LibraryDesk$SubThing", name := "compare", desc := "(II)I" } : Jvm.MethodName) "LibraryDesk") ∈ lw_tbl := lw_at lw_m10 88 rfl
theorem q2769 : (Jvm.Cond.static ({ cls := "LibraryDesk$Nea\x72", name := "rank", desc := "(LLibraryDesk$Maps;I)I" } : Jvm.MethodName)) ∈ lw_all := lw_g (lw_at lw_m10 102 rfl) rfl
theorem q2770 : (Jvm.Cond.code ({ cls := "LibraryDesk$Nea\x72", name := "rank", desc := "(LLibraryDesk$Maps;I)I" } : Jvm.MethodName) prog_17_method_4_code (4 : Nat) (Option.some Jvm.ClassFile.FieldType.int)) ∈ lw_all := lw_g (lw_at lw_m10 103 rfl) rfl
theorem q2771 : (Jvm.Cond.methodLink "LibraryDesk$Nea\x72" (55 : Nat) ({ cls := "LibraryDesk$Maps", name := "first", desc := "()I" } : Jvm.MethodName)) ∈ lw_all := lw_g (lw_at lw_m10 104 rfl) rfl
theorem q2772 : (Jvm.Cond.methodLink "LibraryDesk$Nea\x72" (58 : Nat) ({ cls := "LibraryDesk$Maps", name := "key", desc := "(I)I" } : Jvm.MethodName)) ∈ lw_all := lw_g (lw_at lw_m10 105 rfl) rfl
theorem q2773 : (Jvm.Cond.methodLink "LibraryDesk$Nea\x72" (59 : Nat) ({ cls := "LibraryDesk$Nea\x72", name := "compare", desc := "(LLibraryDesk$Maps;II)I" } : Jvm.MethodName)) ∈ lw_all := lw_g (lw_at lw_m10 106 rfl) rfl
theorem q2774 : (Jvm.Cond.methodLink "LibraryDesk$Nea\x72" (64 : Nat) ({ cls := "LibraryDesk$Maps", name := "next", desc := "(I)I" } : Jvm.MethodName)) ∈ lw_all := lw_g (lw_at lw_m10 107 rfl) rfl
theorem q2776 : (Jvm.Cond.static ({ cls := "LibraryDesk$Nea\x72", name := "nearest", desc := "(LLibraryDesk$Maps;II)J" } : Jvm.MethodName)) ∈ lw_all := lw_g (lw_at lw_m10 109 rfl) rfl
theorem q2777 : (Jvm.Cond.code ({ cls := "LibraryDesk$Nea\x72", name := "nearest", desc := "(LLibraryDesk$Maps;II)J" } : Jvm.MethodName) prog_17_method_3_code (11 : Nat) (Option.some Jvm.ClassFile.FieldType.long)) ∈ lw_all := lw_g (lw_at lw_m10 110 rfl) rfl
theorem q2778 : (Jvm.Cond.methodLink "LibraryDesk$Nea\x72" (32 : Nat) ({ cls := "LibraryDesk$TreeThing", name := "upTo", desc := "(IZ)I" } : Jvm.MethodName)) ∈ lw_all := lw_g (lw_at lw_m10 111 rfl) rfl
theorem q2779 : (Jvm.Cond.methodLink "LibraryDesk$Nea\x72" (36 : Nat) ({ cls := "LibraryDesk$TreeThing", name := "from", desc := "(IZ)I" } : Jvm.MethodName)) ∈ lw_all := lw_g (lw_at lw_m10 112 rfl) rfl
theorem q2780 : (Jvm.Cond.constantLong "LibraryDesk$Nea\x72" (39 : Nat) (1099511627776 : Int64)) ∈ lw_all := lw_g (lw_at lw_m10 113 rfl) rfl
theorem q2781 : (Jvm.Cond.methodLink "LibraryDesk$Nea\x72" (41 : Nat) ({ cls := "LibraryDesk$TreeThing", name := "key", desc := "(I)I" } : Jvm.MethodName)) ∈ lw_all := lw_g (lw_at lw_m10 114 rfl) rfl
theorem q2782 : (Jvm.Cond.methodLinkNest "LibraryDesk$Nea\x72" (45 : Nat) ({ cls := "LibraryDesk$SubThing", name := "holds", desc := "(I)Z" } : Jvm.MethodName) "LibraryDesk") ∈ lw_tbl := lw_at lw_m10 115 rfl
theorem q2783 : (Jvm.Cond.methodLinkNest "LibraryDesk$Nea\x72" (49 : Nat) ({ cls := "LibraryDesk$SubThing", name := "highest", desc := "()I" } : Jvm.MethodName) "LibraryDesk") ∈ lw_tbl := lw_at lw_m10 116 rfl
theorem q2784 : (Jvm.Cond.methodLinkNest "LibraryDesk$Nea\x72" (52 : Nat) ({ cls := "LibraryDesk$SubThing", name := "lowest", desc := "()I" } : Jvm.MethodName) "LibraryDesk") ∈ lw_tbl := lw_at lw_m10 117 rfl

/-! LibraryDesk$Broken -/
set_option maxRecDepth 100000
def RX38 : String := "LibraryDesk$Broken"
def TX38 : u_T := fun k => match k with
  | 0 => ("java/lang/Throwable", "cause", "Ljava/lang/Throwable;", false)
  | 1 => ("java/lang/Throwable", "stackTrace", "[Ljava/lang/StackTraceElement;", false)
  | 2 => ("java/lang/Throwable", "suppressedExceptions", "Ljava/util/List;", false)
  | 3 => ("java/lang/Throwable", "detailMessage", "Ljava/lang/String;", false)
  | 4 => ("java/lang/Throwable", "backtrace", "Ljava/lang/Object;", false)
  | 5 => ("java/lang/Throwable", "depth", "I", false)
  | _ => ("LibraryDesk$Broken", "place", "I", true)
def tyX38 : Nat → FieldType := fun k => match k with
  | 0 => .object "java/lang/Throwable"
  | 1 => .array (.object "java/lang/StackTraceElement")
  | 2 => .object "java/util/List"
  | 3 => .object "java/lang/String"
  | 4 => .object "java/lang/Object"
  | 5 => .int
  | _ => .int
abbrev wsX380 : List Cond := u_ws RX38 TX38 7
theorem nmX38 : ∀ a, a < 7 → ∀ b, b < 7 → a ≠ b → (TX38 a).2.1 ≠ (TX38 b).2.1 := by decide +kernel
theorem tyX38_ok : ∀ k, k < 7 → parseFieldDescriptor (TX38 k).2.2.1 = some (tyX38 k) := by decide +kernel
abbrev cX38_init : ByteArray := prog_4_method_1_code
def yX38_init : MethodName := ⟨RX38, "<init>", "(I)V"⟩
def dkwX38_init_0 : List UInt8 := [42, 1, 1, 3, 3, 183, 0, 1, 42, 27, 181, 0, 7, 177]
abbrev dktX38_init_0 : List UInt8 := dkwX38_init_0 ++ []
theorem dksX38_init_0 : cX38_init.data.toList.drop 0 = dktX38_init_0 := by decide +kernel
theorem dX38_init_0 : decode cX38_init 0 = .ok (.aload_n 0, 1) := dk_42 (dk_at dksX38_init_0 0 rfl rfl)
theorem dX38_init_1 : decode cX38_init 1 = .ok (.aconst_null, 1) := dk_1 (dk_at dksX38_init_0 1 rfl rfl)
theorem dX38_init_2 : decode cX38_init 2 = .ok (.aconst_null, 1) := dk_1 (dk_at dksX38_init_0 2 rfl rfl)
theorem dX38_init_3 : decode cX38_init 3 = .ok (.iconst 0, 1) := dk_3 (dk_at dksX38_init_0 3 rfl rfl)
theorem dX38_init_4 : decode cX38_init 4 = .ok (.iconst 0, 1) := dk_3 (dk_at dksX38_init_0 4 rfl rfl)
theorem dX38_init_5 : decode cX38_init 5 = .ok (.invokespecial 1, 3) := dk_183 0 1 (dk_at dksX38_init_0 5 rfl rfl)
theorem dX38_init_8 : decode cX38_init 8 = .ok (.aload_n 0, 1) := dk_42 (dk_at dksX38_init_0 8 rfl rfl)
theorem dX38_init_9 : decode cX38_init 9 = .ok (.iload_n 1, 1) := dk_27 (dk_at dksX38_init_0 9 rfl rfl)
theorem dX38_init_10 : decode cX38_init 10 = .ok (.putfield 7, 3) := dk_181 0 7 (dk_at dksX38_init_0 10 rfl rfl)
theorem dX38_init_13 : decode cX38_init 13 = .ok (.return_, 1) := dk_177 (dk_at dksX38_init_0 13 rfl rfl)
theorem q561 : (Jvm.Cond.initialized "LibraryDesk$Broken") ∈ lw_all := lw_g (lw_at lw_m1 54 rfl) rfl
theorem q1181 : (Jvm.Cond.selects "LibraryDesk$Broken" ({ cls := "java/lang/Throwable", name := "fillInStackTrace", desc := "()Ljava/lang/Throwable;" } : Jvm.MethodName) ({ cls := "java/lang/Throwable", name := "fillInStackTrace", desc := "()Ljava/lang/Throwable;" } : Jvm.MethodName)) ∈ lw_all := lw_g (lw_at lw_m3 194 rfl) rfl
theorem q3100 : (Jvm.Cond.instantiable "LibraryDesk$Broken" (7 : Nat)) ∈ lw_all := lw_g (lw_at lw_m11 193 rfl) rfl
theorem q3101 : (Jvm.Cond.castable "LibraryDesk$Broken" "LibraryDesk$Broken") ∈ lw_tbl := lw_at lw_m11 194 rfl
theorem q3102 : (Jvm.Cond.selects "LibraryDesk$Broken" ({ cls := "java/lang/Throwable", name := "fillInStackTrace", desc := "(I)Ljava/lang/Throwable;" } : Jvm.MethodName) ({ cls := "java/lang/Throwable", name := "fillInStackTrace", desc := "(I)Ljava/lang/Throwable;" } : Jvm.MethodName)) ∈ lw_all := lw_g (lw_at lw_m11 195 rfl) rfl
theorem q3103 : (Jvm.Cond.lays "LibraryDesk$Broken" "java/lang/Throwable" "cause" "Ljava/lang/Throwable;") ∈ lw_all := lw_g (lw_at lw_m11 196 rfl) rfl
theorem q3104 : (Jvm.Cond.lays "LibraryDesk$Broken" "java/lang/Throwable" "stackTrace" "[Ljava/lang/StackTraceElement;") ∈ lw_all := lw_g (lw_at lw_m11 197 rfl) rfl
theorem q3105 : (Jvm.Cond.lays "LibraryDesk$Broken" "java/lang/Throwable" "suppressedExceptions" "Ljava/util/List;") ∈ lw_all := lw_g (lw_at lw_m11 198 rfl) rfl
theorem q3106 : (Jvm.Cond.lays "LibraryDesk$Broken" "java/lang/Throwable" "detailMessage" "Ljava/lang/String;") ∈ lw_all := lw_g (lw_at lw_m11 199 rfl) rfl
theorem q3107 : (Jvm.Cond.lays "LibraryDesk$Broken" "java/lang/Throwable" "backtrace" "Ljava/lang/Object;") ∈ lw_all := lw_g (lw_at lw_m11 200 rfl) rfl
theorem q3109 : (Jvm.Cond.instanceMethod ({ cls := "LibraryDesk$Broken", name := "<init>", desc := "(I)V" } : Jvm.MethodName)) ∈ lw_all := lw_g (lw_at lw_m11 202 rfl) rfl
theorem q3110 : (Jvm.Cond.code ({ cls := "LibraryDesk$Broken", name := "<init>", desc := "(I)V" } : Jvm.MethodName) prog_4_method_1_code (2 : Nat) (Option.none : Option Jvm.ClassFile.FieldType)) ∈ lw_all := lw_g (lw_at lw_m11 203 rfl) rfl
theorem q3111 : (Jvm.Cond.methodLink "LibraryDesk$Broken" (1 : Nat) ({ cls := "java/lang/RuntimeException", name := "<init>", desc := "(Ljava/lang/String;Ljava/lang/Throwable;ZZ)V" } : Jvm.MethodName)) ∈ lw_all := lw_g (lw_at lw_m11 204 rfl) rfl
theorem q3120 : (Jvm.Cond.fieldLink "LibraryDesk$Broken" (7 : Nat) "LibraryDesk$Broken" "place" "I") ∈ lw_all := lw_g (lw_at lw_m11 213 rfl) rfl
theorem q3122 : (Jvm.Cond.laysFinal "LibraryDesk$Broken" "LibraryDesk$Broken" "place" "I") ∈ lw_all := lw_g (lw_at lw_m11 215 rfl) rfl
theorem q3123 : (Jvm.Cond.soleField "LibraryDesk$Broken" "place") ∈ lw_all := lw_g (lw_at lw_m11 216 rfl) rfl
theorem q3124 : (Jvm.Cond.lays "LibraryDesk$Broken" "java/lang/Throwable" "depth" "I") ∈ lw_all := lw_g (lw_at lw_m11 217 rfl) rfl
theorem q3125 : (Jvm.Cond.superclass "LibraryDesk$Broken" "java/lang/RuntimeException") ∈ lw_all := lw_g (lw_at lw_m11 218 rfl) rfl
theorem q6147 : (Jvm.Cond.castable "LibraryDesk$Broken" "java/lang/Object") ∈ lw_tbl := lw_at lw_m24 120 rfl
theorem in_X38 : ∀ w ∈ wsX380, w ∈ lw_all := lw_in wsX380 [3103, 3104, 3105, 3106, 3107, 3124, 3122] (by decide +kernel) (by decide +kernel)

/-! LibraryDeskModel$Broken -/
set_option maxRecDepth 100000
def RX39 : String := "LibraryDeskModel$Broken"
def TX39 : u_T := fun k => match k with
  | 0 => ("java/lang/Throwable", "cause", "Ljava/lang/Throwable;", false)
  | 1 => ("java/lang/Throwable", "stackTrace", "[Ljava/lang/StackTraceElement;", false)
  | 2 => ("java/lang/Throwable", "suppressedExceptions", "Ljava/util/List;", false)
  | 3 => ("java/lang/Throwable", "detailMessage", "Ljava/lang/String;", false)
  | 4 => ("java/lang/Throwable", "backtrace", "Ljava/lang/Object;", false)
  | 5 => ("java/lang/Throwable", "depth", "I", false)
  | _ => ("LibraryDeskModel$Broken", "place", "I", true)
def tyX39 : Nat → FieldType := fun k => match k with
  | 0 => .object "java/lang/Throwable"
  | 1 => .array (.object "java/lang/StackTraceElement")
  | 2 => .object "java/util/List"
  | 3 => .object "java/lang/String"
  | 4 => .object "java/lang/Object"
  | 5 => .int
  | _ => .int
abbrev wsX390 : List Cond := u_ws RX39 TX39 7
theorem nmX39 : ∀ a, a < 7 → ∀ b, b < 7 → a ≠ b → (TX39 a).2.1 ≠ (TX39 b).2.1 := by decide +kernel
theorem tyX39_ok : ∀ k, k < 7 → parseFieldDescriptor (TX39 k).2.2.1 = some (tyX39 k) := by decide +kernel
abbrev cX39_init : ByteArray := prog_41_method_1_code
def yX39_init : MethodName := ⟨RX39, "<init>", "(I)V"⟩
def dkwX39_init_0 : List UInt8 := [42, 183, 0, 1, 42, 27, 181, 0, 7, 177]
abbrev dktX39_init_0 : List UInt8 := dkwX39_init_0 ++ []
theorem dksX39_init_0 : cX39_init.data.toList.drop 0 = dktX39_init_0 := by decide +kernel
theorem dX39_init_0 : decode cX39_init 0 = .ok (.aload_n 0, 1) := dk_42 (dk_at dksX39_init_0 0 rfl rfl)
theorem dX39_init_1 : decode cX39_init 1 = .ok (.invokespecial 1, 3) := dk_183 0 1 (dk_at dksX39_init_0 1 rfl rfl)
theorem dX39_init_4 : decode cX39_init 4 = .ok (.aload_n 0, 1) := dk_42 (dk_at dksX39_init_0 4 rfl rfl)
theorem dX39_init_5 : decode cX39_init 5 = .ok (.iload_n 1, 1) := dk_27 (dk_at dksX39_init_0 5 rfl rfl)
theorem dX39_init_6 : decode cX39_init 6 = .ok (.putfield 7, 3) := dk_181 0 7 (dk_at dksX39_init_0 6 rfl rfl)
theorem dX39_init_9 : decode cX39_init 9 = .ok (.return_, 1) := dk_177 (dk_at dksX39_init_0 9 rfl rfl)
theorem q562 : (Jvm.Cond.initialized "LibraryDeskModel$Broken") ∈ lw_all := lw_g (lw_at lw_m1 55 rfl) rfl
theorem q1182 : (Jvm.Cond.selects "LibraryDeskModel$Broken" ({ cls := "java/lang/Throwable", name := "fillInStackTrace", desc := "()Ljava/lang/Throwable;" } : Jvm.MethodName) ({ cls := "java/lang/Throwable", name := "fillInStackTrace", desc := "()Ljava/lang/Throwable;" } : Jvm.MethodName)) ∈ lw_all := lw_g (lw_at lw_m3 195 rfl) rfl
theorem q5284 : (Jvm.Cond.instantiable "LibraryDeskModel$Broken" (7 : Nat)) ∈ lw_all := lw_g (lw_at lw_m20 217 rfl) rfl
theorem q5285 : (Jvm.Cond.castable "LibraryDeskModel$Broken" "LibraryDeskModel$Broken") ∈ lw_tbl := lw_at lw_m20 218 rfl
theorem q5286 : (Jvm.Cond.selects "LibraryDeskModel$Broken" ({ cls := "java/lang/Throwable", name := "fillInStackTrace", desc := "(I)Ljava/lang/Throwable;" } : Jvm.MethodName) ({ cls := "java/lang/Throwable", name := "fillInStackTrace", desc := "(I)Ljava/lang/Throwable;" } : Jvm.MethodName)) ∈ lw_all := lw_g (lw_at lw_m20 219 rfl) rfl
theorem q5287 : (Jvm.Cond.lays "LibraryDeskModel$Broken" "java/lang/Throwable" "cause" "Ljava/lang/Throwable;") ∈ lw_all := lw_g (lw_at lw_m20 220 rfl) rfl
theorem q5288 : (Jvm.Cond.lays "LibraryDeskModel$Broken" "java/lang/Throwable" "stackTrace" "[Ljava/lang/StackTraceElement;") ∈ lw_all := lw_g (lw_at lw_m20 221 rfl) rfl
theorem q5289 : (Jvm.Cond.lays "LibraryDeskModel$Broken" "java/lang/Throwable" "suppressedExceptions" "Ljava/util/List;") ∈ lw_all := lw_g (lw_at lw_m20 222 rfl) rfl
theorem q5290 : (Jvm.Cond.lays "LibraryDeskModel$Broken" "java/lang/Throwable" "detailMessage" "Ljava/lang/String;") ∈ lw_all := lw_g (lw_at lw_m20 223 rfl) rfl
theorem q5291 : (Jvm.Cond.lays "LibraryDeskModel$Broken" "java/lang/Throwable" "backtrace" "Ljava/lang/Object;") ∈ lw_all := lw_g (lw_at lw_m20 224 rfl) rfl
theorem q5293 : (Jvm.Cond.instanceMethod ({ cls := "LibraryDeskModel$Broken", name := "<init>", desc := "(I)V" } : Jvm.MethodName)) ∈ lw_all := lw_g (lw_at lw_m20 226 rfl) rfl
theorem q5294 : (Jvm.Cond.code ({ cls := "LibraryDeskModel$Broken", name := "<init>", desc := "(I)V" } : Jvm.MethodName) prog_41_method_1_code (2 : Nat) (Option.none : Option Jvm.ClassFile.FieldType)) ∈ lw_all := lw_g (lw_at lw_m20 227 rfl) rfl
theorem q5295 : (Jvm.Cond.methodLink "LibraryDeskModel$Broken" (1 : Nat) ({ cls := "java/lang/RuntimeException", name := "<init>", desc := "()V" } : Jvm.MethodName)) ∈ lw_all := lw_g (lw_at lw_m20 228 rfl) rfl
theorem q5296 : (Jvm.Cond.fieldLink "LibraryDeskModel$Broken" (7 : Nat) "LibraryDeskModel$Broken" "place" "I") ∈ lw_all := lw_g (lw_at lw_m20 229 rfl) rfl
theorem q5298 : (Jvm.Cond.laysFinal "LibraryDeskModel$Broken" "LibraryDeskModel$Broken" "place" "I") ∈ lw_all := lw_g (lw_at lw_m20 231 rfl) rfl
theorem q5299 : (Jvm.Cond.soleField "LibraryDeskModel$Broken" "place") ∈ lw_all := lw_g (lw_at lw_m20 232 rfl) rfl
theorem q5300 : (Jvm.Cond.lays "LibraryDeskModel$Broken" "java/lang/Throwable" "depth" "I") ∈ lw_all := lw_g (lw_at lw_m20 233 rfl) rfl
theorem q5301 : (Jvm.Cond.superclass "LibraryDeskModel$Broken" "java/lang/RuntimeException") ∈ lw_all := lw_g (lw_at lw_m20 234 rfl) rfl
theorem q6148 : (Jvm.Cond.castable "LibraryDeskModel$Broken" "java/lang/Object") ∈ lw_tbl := lw_at lw_m24 121 rfl
theorem in_X39 : ∀ w ∈ wsX390, w ∈ lw_all := lw_in wsX390 [5287, 5288, 5289, 5290, 5291, 5300, 5298] (by decide +kernel) (by decide +kernel)

/-! LibraryDeskModel$Refused -/
set_option maxRecDepth 100000
def RX40 : String := "LibraryDeskModel$Refused"
def TX40 : u_T := fun k => match k with
  | 0 => ("java/lang/Throwable", "cause", "Ljava/lang/Throwable;", false)
  | 1 => ("java/lang/Throwable", "stackTrace", "[Ljava/lang/StackTraceElement;", false)
  | 2 => ("java/lang/Throwable", "suppressedExceptions", "Ljava/util/List;", false)
  | 3 => ("java/lang/Throwable", "detailMessage", "Ljava/lang/String;", false)
  | 4 => ("java/lang/Throwable", "backtrace", "Ljava/lang/Object;", false)
  | 5 => ("java/lang/Throwable", "depth", "I", false)
  | _ => ("LibraryDeskModel$Refused", "why", "I", true)
def tyX40 : Nat → FieldType := fun k => match k with
  | 0 => .object "java/lang/Throwable"
  | 1 => .array (.object "java/lang/StackTraceElement")
  | 2 => .object "java/util/List"
  | 3 => .object "java/lang/String"
  | 4 => .object "java/lang/Object"
  | 5 => .int
  | _ => .int
abbrev wsX400 : List Cond := u_ws RX40 TX40 7
theorem nmX40 : ∀ a, a < 7 → ∀ b, b < 7 → a ≠ b → (TX40 a).2.1 ≠ (TX40 b).2.1 := by decide +kernel
theorem tyX40_ok : ∀ k, k < 7 → parseFieldDescriptor (TX40 k).2.2.1 = some (tyX40 k) := by decide +kernel
abbrev cX40_init : ByteArray := prog_42_method_1_code
def yX40_init : MethodName := ⟨RX40, "<init>", "(I)V"⟩
def dkwX40_init_0 : List UInt8 := [42, 183, 0, 1, 42, 27, 181, 0, 7, 177]
abbrev dktX40_init_0 : List UInt8 := dkwX40_init_0 ++ []
theorem dksX40_init_0 : cX40_init.data.toList.drop 0 = dktX40_init_0 := by decide +kernel
theorem dX40_init_0 : decode cX40_init 0 = .ok (.aload_n 0, 1) := dk_42 (dk_at dksX40_init_0 0 rfl rfl)
theorem dX40_init_1 : decode cX40_init 1 = .ok (.invokespecial 1, 3) := dk_183 0 1 (dk_at dksX40_init_0 1 rfl rfl)
theorem dX40_init_4 : decode cX40_init 4 = .ok (.aload_n 0, 1) := dk_42 (dk_at dksX40_init_0 4 rfl rfl)
theorem dX40_init_5 : decode cX40_init 5 = .ok (.iload_n 1, 1) := dk_27 (dk_at dksX40_init_0 5 rfl rfl)
theorem dX40_init_6 : decode cX40_init 6 = .ok (.putfield 7, 3) := dk_181 0 7 (dk_at dksX40_init_0 6 rfl rfl)
theorem dX40_init_9 : decode cX40_init 9 = .ok (.return_, 1) := dk_177 (dk_at dksX40_init_0 9 rfl rfl)
theorem q568 : (Jvm.Cond.initialized "LibraryDeskModel$Refused") ∈ lw_all := lw_g (lw_at lw_m1 61 rfl) rfl
theorem q1183 : (Jvm.Cond.selects "LibraryDeskModel$Refused" ({ cls := "java/lang/Throwable", name := "fillInStackTrace", desc := "()Ljava/lang/Throwable;" } : Jvm.MethodName) ({ cls := "java/lang/Throwable", name := "fillInStackTrace", desc := "()Ljava/lang/Throwable;" } : Jvm.MethodName)) ∈ lw_all := lw_g (lw_at lw_m3 196 rfl) rfl
theorem q5828 : (Jvm.Cond.instantiable "LibraryDeskModel$Refused" (7 : Nat)) ∈ lw_all := lw_g (lw_at lw_m23 41 rfl) rfl
theorem q5829 : (Jvm.Cond.castable "LibraryDeskModel$Refused" "LibraryDeskModel$Refused") ∈ lw_tbl := lw_at lw_m23 42 rfl
theorem q5830 : (Jvm.Cond.selects "LibraryDeskModel$Refused" ({ cls := "java/lang/Throwable", name := "fillInStackTrace", desc := "(I)Ljava/lang/Throwable;" } : Jvm.MethodName) ({ cls := "java/lang/Throwable", name := "fillInStackTrace", desc := "(I)Ljava/lang/Throwable;" } : Jvm.MethodName)) ∈ lw_all := lw_g (lw_at lw_m23 43 rfl) rfl
theorem q5831 : (Jvm.Cond.lays "LibraryDeskModel$Refused" "java/lang/Throwable" "cause" "Ljava/lang/Throwable;") ∈ lw_all := lw_g (lw_at lw_m23 44 rfl) rfl
theorem q5832 : (Jvm.Cond.lays "LibraryDeskModel$Refused" "java/lang/Throwable" "stackTrace" "[Ljava/lang/StackTraceElement;") ∈ lw_all := lw_g (lw_at lw_m23 45 rfl) rfl
theorem q5833 : (Jvm.Cond.lays "LibraryDeskModel$Refused" "java/lang/Throwable" "suppressedExceptions" "Ljava/util/List;") ∈ lw_all := lw_g (lw_at lw_m23 46 rfl) rfl
theorem q5834 : (Jvm.Cond.lays "LibraryDeskModel$Refused" "java/lang/Throwable" "detailMessage" "Ljava/lang/String;") ∈ lw_all := lw_g (lw_at lw_m23 47 rfl) rfl
theorem q5835 : (Jvm.Cond.lays "LibraryDeskModel$Refused" "java/lang/Throwable" "backtrace" "Ljava/lang/Object;") ∈ lw_all := lw_g (lw_at lw_m23 48 rfl) rfl
theorem q5837 : (Jvm.Cond.instanceMethod ({ cls := "LibraryDeskModel$Refused", name := "<init>", desc := "(I)V" } : Jvm.MethodName)) ∈ lw_all := lw_g (lw_at lw_m23 50 rfl) rfl
theorem q5838 : (Jvm.Cond.code ({ cls := "LibraryDeskModel$Refused", name := "<init>", desc := "(I)V" } : Jvm.MethodName) prog_42_method_1_code (2 : Nat) (Option.none : Option Jvm.ClassFile.FieldType)) ∈ lw_all := lw_g (lw_at lw_m23 51 rfl) rfl
theorem q5839 : (Jvm.Cond.methodLink "LibraryDeskModel$Refused" (1 : Nat) ({ cls := "java/lang/RuntimeException", name := "<init>", desc := "()V" } : Jvm.MethodName)) ∈ lw_all := lw_g (lw_at lw_m23 52 rfl) rfl
theorem q5840 : (Jvm.Cond.fieldLink "LibraryDeskModel$Refused" (7 : Nat) "LibraryDeskModel$Refused" "why" "I") ∈ lw_all := lw_g (lw_at lw_m23 53 rfl) rfl
theorem q5842 : (Jvm.Cond.laysFinal "LibraryDeskModel$Refused" "LibraryDeskModel$Refused" "why" "I") ∈ lw_all := lw_g (lw_at lw_m23 55 rfl) rfl
theorem q5843 : (Jvm.Cond.soleField "LibraryDeskModel$Refused" "why") ∈ lw_all := lw_g (lw_at lw_m23 56 rfl) rfl
theorem q5844 : (Jvm.Cond.lays "LibraryDeskModel$Refused" "java/lang/Throwable" "depth" "I") ∈ lw_all := lw_g (lw_at lw_m23 57 rfl) rfl
theorem q5845 : (Jvm.Cond.superclass "LibraryDeskModel$Refused" "java/lang/RuntimeException") ∈ lw_all := lw_g (lw_at lw_m23 58 rfl) rfl
theorem q6150 : (Jvm.Cond.castable "LibraryDeskModel$Refused" "java/lang/Object") ∈ lw_tbl := lw_at lw_m24 123 rfl
theorem in_X40 : ∀ w ∈ wsX400, w ∈ lw_all := lw_in wsX400 [5831, 5832, 5833, 5834, 5835, 5844, 5842] (by decide +kernel) (by decide +kernel)

/-! LibraryDesk$Days -/
set_option maxRecDepth 100000
def RX41 : String := "LibraryDesk$Days"
abbrev cX41_ofMonth : ByteArray := prog_6_method_3_code
def yX41_ofMonth : MethodName := ⟨RX41, "ofMonth", "(II)I"⟩
def dkwX41_ofMonth_2 : List UInt8 := [167, 0, 5, 16, 31, 172]
abbrev dktX41_ofMonth_2 : List UInt8 := dkwX41_ofMonth_2 ++ []
def dkwX41_ofMonth_1 : List UInt8 := [159, 0, 21, 27, 16, 6, 159, 0, 15, 27, 16, 9, 159, 0, 9, 27, 16, 11, 160, 0, 8, 16, 30]
abbrev dktX41_ofMonth_1 : List UInt8 := dkwX41_ofMonth_1 ++ dktX41_ofMonth_2
def dkwX41_ofMonth_0 : List UInt8 := [27, 5, 160, 0, 20, 26, 184, 0, 13, 153, 0, 8, 16, 29, 167, 0, 38, 16, 28, 167, 0, 33, 27, 7]
abbrev dktX41_ofMonth_0 : List UInt8 := dkwX41_ofMonth_0 ++ dktX41_ofMonth_1
theorem dksX41_ofMonth_0 : cX41_ofMonth.data.toList.drop 0 = dktX41_ofMonth_0 := by decide +kernel
theorem dksX41_ofMonth_1 : cX41_ofMonth.data.toList.drop 24 = dktX41_ofMonth_1 := dk_seg dksX41_ofMonth_0 24 rfl rfl
theorem dksX41_ofMonth_2 : cX41_ofMonth.data.toList.drop 47 = dktX41_ofMonth_2 := dk_seg dksX41_ofMonth_1 23 rfl rfl
theorem dX41_ofMonth_0 : decode cX41_ofMonth 0 = .ok (.iload_n 1, 1) := dk_27 (dk_at dksX41_ofMonth_0 0 rfl rfl)
theorem dX41_ofMonth_1 : decode cX41_ofMonth 1 = .ok (.iconst 2, 1) := dk_5 (dk_at dksX41_ofMonth_0 1 rfl rfl)
theorem dX41_ofMonth_2 : decode cX41_ofMonth 2 = .ok (.if_icmp .ne 20, 3) := dk_160 0 20 (dk_at dksX41_ofMonth_0 2 rfl rfl)
theorem dX41_ofMonth_5 : decode cX41_ofMonth 5 = .ok (.iload_n 0, 1) := dk_26 (dk_at dksX41_ofMonth_0 5 rfl rfl)
theorem dX41_ofMonth_6 : decode cX41_ofMonth 6 = .ok (.invokestatic 13, 3) := dk_184 0 13 (dk_at dksX41_ofMonth_0 6 rfl rfl)
theorem dX41_ofMonth_9 : decode cX41_ofMonth 9 = .ok (.ifCond .eq 8, 3) := dk_153 0 8 (dk_at dksX41_ofMonth_0 9 rfl rfl)
theorem dX41_ofMonth_12 : decode cX41_ofMonth 12 = .ok (.bipush 29, 2) := dk_16 29 (dk_at dksX41_ofMonth_0 12 rfl rfl)
theorem dX41_ofMonth_14 : decode cX41_ofMonth 14 = .ok (.goto 38, 3) := dk_167 0 38 (dk_at dksX41_ofMonth_0 14 rfl rfl)
theorem dX41_ofMonth_17 : decode cX41_ofMonth 17 = .ok (.bipush 28, 2) := dk_16 28 (dk_at dksX41_ofMonth_0 17 rfl rfl)
theorem dX41_ofMonth_19 : decode cX41_ofMonth 19 = .ok (.goto 33, 3) := dk_167 0 33 (dk_at dksX41_ofMonth_0 19 rfl rfl)
theorem dX41_ofMonth_22 : decode cX41_ofMonth 22 = .ok (.iload_n 1, 1) := dk_27 (dk_at dksX41_ofMonth_0 22 rfl rfl)
theorem dX41_ofMonth_23 : decode cX41_ofMonth 23 = .ok (.iconst 4, 1) := dk_7 (dk_at dksX41_ofMonth_0 23 rfl rfl)
theorem dX41_ofMonth_24 : decode cX41_ofMonth 24 = .ok (.if_icmp .eq 21, 3) := dk_159 0 21 (dk_at dksX41_ofMonth_1 0 rfl rfl)
theorem dX41_ofMonth_27 : decode cX41_ofMonth 27 = .ok (.iload_n 1, 1) := dk_27 (dk_at dksX41_ofMonth_1 3 rfl rfl)
theorem dX41_ofMonth_28 : decode cX41_ofMonth 28 = .ok (.bipush 6, 2) := dk_16 6 (dk_at dksX41_ofMonth_1 4 rfl rfl)
theorem dX41_ofMonth_30 : decode cX41_ofMonth 30 = .ok (.if_icmp .eq 15, 3) := dk_159 0 15 (dk_at dksX41_ofMonth_1 6 rfl rfl)
theorem dX41_ofMonth_33 : decode cX41_ofMonth 33 = .ok (.iload_n 1, 1) := dk_27 (dk_at dksX41_ofMonth_1 9 rfl rfl)
theorem dX41_ofMonth_34 : decode cX41_ofMonth 34 = .ok (.bipush 9, 2) := dk_16 9 (dk_at dksX41_ofMonth_1 10 rfl rfl)
theorem dX41_ofMonth_36 : decode cX41_ofMonth 36 = .ok (.if_icmp .eq 9, 3) := dk_159 0 9 (dk_at dksX41_ofMonth_1 12 rfl rfl)
theorem dX41_ofMonth_39 : decode cX41_ofMonth 39 = .ok (.iload_n 1, 1) := dk_27 (dk_at dksX41_ofMonth_1 15 rfl rfl)
theorem dX41_ofMonth_40 : decode cX41_ofMonth 40 = .ok (.bipush 11, 2) := dk_16 11 (dk_at dksX41_ofMonth_1 16 rfl rfl)
theorem dX41_ofMonth_42 : decode cX41_ofMonth 42 = .ok (.if_icmp .ne 8, 3) := dk_160 0 8 (dk_at dksX41_ofMonth_1 18 rfl rfl)
theorem dX41_ofMonth_45 : decode cX41_ofMonth 45 = .ok (.bipush 30, 2) := dk_16 30 (dk_at dksX41_ofMonth_1 21 rfl rfl)
theorem dX41_ofMonth_47 : decode cX41_ofMonth 47 = .ok (.goto 5, 3) := dk_167 0 5 (dk_at dksX41_ofMonth_2 0 rfl rfl)
theorem dX41_ofMonth_50 : decode cX41_ofMonth 50 = .ok (.bipush 31, 2) := dk_16 31 (dk_at dksX41_ofMonth_2 3 rfl rfl)
theorem dX41_ofMonth_52 : decode cX41_ofMonth 52 = .ok (.ireturn, 1) := dk_172 (dk_at dksX41_ofMonth_2 5 rfl rfl)
abbrev cX41_isLeap : ByteArray := prog_6_method_2_code
def yX41_isLeap : MethodName := ⟨RX41, "isLeap", "(I)Z"⟩
def dkwX41_isLeap_1 : List UInt8 := [154, 0, 7, 4, 167, 0, 4, 3, 172]
abbrev dktX41_isLeap_1 : List UInt8 := dkwX41_isLeap_1 ++ []
def dkwX41_isLeap_0 : List UInt8 := [26, 7, 184, 0, 7, 154, 0, 26, 26, 16, 100, 184, 0, 7, 154, 0, 13, 26, 17, 1, 144, 184, 0, 7]
abbrev dktX41_isLeap_0 : List UInt8 := dkwX41_isLeap_0 ++ dktX41_isLeap_1
theorem dksX41_isLeap_0 : cX41_isLeap.data.toList.drop 0 = dktX41_isLeap_0 := by decide +kernel
theorem dksX41_isLeap_1 : cX41_isLeap.data.toList.drop 24 = dktX41_isLeap_1 := dk_seg dksX41_isLeap_0 24 rfl rfl
theorem dX41_isLeap_0 : decode cX41_isLeap 0 = .ok (.iload_n 0, 1) := dk_26 (dk_at dksX41_isLeap_0 0 rfl rfl)
theorem dX41_isLeap_1 : decode cX41_isLeap 1 = .ok (.iconst 4, 1) := dk_7 (dk_at dksX41_isLeap_0 1 rfl rfl)
theorem dX41_isLeap_2 : decode cX41_isLeap 2 = .ok (.invokestatic 7, 3) := dk_184 0 7 (dk_at dksX41_isLeap_0 2 rfl rfl)
theorem dX41_isLeap_5 : decode cX41_isLeap 5 = .ok (.ifCond .ne 26, 3) := dk_154 0 26 (dk_at dksX41_isLeap_0 5 rfl rfl)
theorem dX41_isLeap_8 : decode cX41_isLeap 8 = .ok (.iload_n 0, 1) := dk_26 (dk_at dksX41_isLeap_0 8 rfl rfl)
theorem dX41_isLeap_9 : decode cX41_isLeap 9 = .ok (.bipush 100, 2) := dk_16 100 (dk_at dksX41_isLeap_0 9 rfl rfl)
theorem dX41_isLeap_11 : decode cX41_isLeap 11 = .ok (.invokestatic 7, 3) := dk_184 0 7 (dk_at dksX41_isLeap_0 11 rfl rfl)
theorem dX41_isLeap_14 : decode cX41_isLeap 14 = .ok (.ifCond .ne 13, 3) := dk_154 0 13 (dk_at dksX41_isLeap_0 14 rfl rfl)
theorem dX41_isLeap_17 : decode cX41_isLeap 17 = .ok (.iload_n 0, 1) := dk_26 (dk_at dksX41_isLeap_0 17 rfl rfl)
theorem dX41_isLeap_18 : decode cX41_isLeap 18 = .ok (.sipush 400, 3) := dk_17 1 144 (dk_at dksX41_isLeap_0 18 rfl rfl)
theorem dX41_isLeap_21 : decode cX41_isLeap 21 = .ok (.invokestatic 7, 3) := dk_184 0 7 (dk_at dksX41_isLeap_0 21 rfl rfl)
theorem dX41_isLeap_24 : decode cX41_isLeap 24 = .ok (.ifCond .ne 7, 3) := dk_154 0 7 (dk_at dksX41_isLeap_1 0 rfl rfl)
theorem dX41_isLeap_27 : decode cX41_isLeap 27 = .ok (.iconst 1, 1) := dk_4 (dk_at dksX41_isLeap_1 3 rfl rfl)
theorem dX41_isLeap_28 : decode cX41_isLeap 28 = .ok (.goto 4, 3) := dk_167 0 4 (dk_at dksX41_isLeap_1 4 rfl rfl)
theorem dX41_isLeap_31 : decode cX41_isLeap 31 = .ok (.iconst 0, 1) := dk_3 (dk_at dksX41_isLeap_1 7 rfl rfl)
theorem dX41_isLeap_32 : decode cX41_isLeap 32 = .ok (.ireturn, 1) := dk_172 (dk_at dksX41_isLeap_1 8 rfl rfl)
abbrev cX41_day : ByteArray := prog_6_method_6_code
def yX41_day : MethodName := ⟨RX41, "day", "(III)I"⟩
def dkwX41_day_1 : List UInt8 := [184, 0, 26, 96, 62, 132, 4, 1, 167, 255, 238, 29, 172]
abbrev dktX41_day_1 : List UInt8 := dkwX41_day_1 ++ []
def dkwX41_day_0 : List UInt8 := [26, 184, 0, 22, 28, 96, 4, 100, 62, 4, 54, 4, 21, 4, 27, 162, 0, 18, 29, 26, 21, 4]
abbrev dktX41_day_0 : List UInt8 := dkwX41_day_0 ++ dktX41_day_1
theorem dksX41_day_0 : cX41_day.data.toList.drop 0 = dktX41_day_0 := by decide +kernel
theorem dksX41_day_1 : cX41_day.data.toList.drop 22 = dktX41_day_1 := dk_seg dksX41_day_0 22 rfl rfl
theorem dX41_day_0 : decode cX41_day 0 = .ok (.iload_n 0, 1) := dk_26 (dk_at dksX41_day_0 0 rfl rfl)
theorem dX41_day_1 : decode cX41_day 1 = .ok (.invokestatic 22, 3) := dk_184 0 22 (dk_at dksX41_day_0 1 rfl rfl)
theorem dX41_day_4 : decode cX41_day 4 = .ok (.iload_n 2, 1) := dk_28 (dk_at dksX41_day_0 4 rfl rfl)
theorem dX41_day_5 : decode cX41_day 5 = .ok (.iadd, 1) := dk_96 (dk_at dksX41_day_0 5 rfl rfl)
theorem dX41_day_6 : decode cX41_day 6 = .ok (.iconst 1, 1) := dk_4 (dk_at dksX41_day_0 6 rfl rfl)
theorem dX41_day_7 : decode cX41_day 7 = .ok (.isub, 1) := dk_100 (dk_at dksX41_day_0 7 rfl rfl)
theorem dX41_day_8 : decode cX41_day 8 = .ok (.istore_n 3, 1) := dk_62 (dk_at dksX41_day_0 8 rfl rfl)
theorem dX41_day_9 : decode cX41_day 9 = .ok (.iconst 1, 1) := dk_4 (dk_at dksX41_day_0 9 rfl rfl)
theorem dX41_day_10 : decode cX41_day 10 = .ok (.istore 4, 2) := dk_54 4 (dk_at dksX41_day_0 10 rfl rfl)
theorem dX41_day_12 : decode cX41_day 12 = .ok (.iload 4, 2) := dk_21 4 (dk_at dksX41_day_0 12 rfl rfl)
theorem dX41_day_14 : decode cX41_day 14 = .ok (.iload_n 1, 1) := dk_27 (dk_at dksX41_day_0 14 rfl rfl)
theorem dX41_day_15 : decode cX41_day 15 = .ok (.if_icmp .ge 18, 3) := dk_162 0 18 (dk_at dksX41_day_0 15 rfl rfl)
theorem dX41_day_18 : decode cX41_day 18 = .ok (.iload_n 3, 1) := dk_29 (dk_at dksX41_day_0 18 rfl rfl)
theorem dX41_day_19 : decode cX41_day 19 = .ok (.iload_n 0, 1) := dk_26 (dk_at dksX41_day_0 19 rfl rfl)
theorem dX41_day_20 : decode cX41_day 20 = .ok (.iload 4, 2) := dk_21 4 (dk_at dksX41_day_0 20 rfl rfl)
theorem dX41_day_22 : decode cX41_day 22 = .ok (.invokestatic 26, 3) := dk_184 0 26 (dk_at dksX41_day_1 0 rfl rfl)
theorem dX41_day_25 : decode cX41_day 25 = .ok (.iadd, 1) := dk_96 (dk_at dksX41_day_1 3 rfl rfl)
theorem dX41_day_26 : decode cX41_day 26 = .ok (.istore_n 3, 1) := dk_62 (dk_at dksX41_day_1 4 rfl rfl)
theorem dX41_day_27 : decode cX41_day 27 = .ok (.iinc 4 1, 3) := dk_132 4 1 (dk_at dksX41_day_1 5 rfl rfl)
theorem dX41_day_30 : decode cX41_day 30 = .ok (.goto (-18), 3) := dk_167 255 238 (dk_at dksX41_day_1 8 rfl rfl)
theorem dX41_day_33 : decode cX41_day 33 = .ok (.iload_n 3, 1) := dk_29 (dk_at dksX41_day_1 11 rfl rfl)
theorem dX41_day_34 : decode cX41_day 34 = .ok (.ireturn, 1) := dk_172 (dk_at dksX41_day_1 12 rfl rfl)
abbrev cX41_before : ByteArray := prog_6_method_5_code
def yX41_before : MethodName := ⟨RX41, "before", "(I)I"⟩
def dkwX41_before_1 : List UInt8 := [184, 0, 19, 100, 27, 17, 1, 144, 184, 0, 19, 96, 17, 1, 221, 100, 172]
abbrev dktX41_before_1 : List UInt8 := dkwX41_before_1 ++ []
def dkwX41_before_0 : List UInt8 := [26, 4, 100, 60, 17, 1, 109, 26, 17, 7, 178, 100, 104, 27, 7, 184, 0, 19, 96, 27, 16, 100]
abbrev dktX41_before_0 : List UInt8 := dkwX41_before_0 ++ dktX41_before_1
theorem dksX41_before_0 : cX41_before.data.toList.drop 0 = dktX41_before_0 := by decide +kernel
theorem dksX41_before_1 : cX41_before.data.toList.drop 22 = dktX41_before_1 := dk_seg dksX41_before_0 22 rfl rfl
theorem dX41_before_0 : decode cX41_before 0 = .ok (.iload_n 0, 1) := dk_26 (dk_at dksX41_before_0 0 rfl rfl)
theorem dX41_before_1 : decode cX41_before 1 = .ok (.iconst 1, 1) := dk_4 (dk_at dksX41_before_0 1 rfl rfl)
theorem dX41_before_2 : decode cX41_before 2 = .ok (.isub, 1) := dk_100 (dk_at dksX41_before_0 2 rfl rfl)
theorem dX41_before_3 : decode cX41_before 3 = .ok (.istore_n 1, 1) := dk_60 (dk_at dksX41_before_0 3 rfl rfl)
theorem dX41_before_4 : decode cX41_before 4 = .ok (.sipush 365, 3) := dk_17 1 109 (dk_at dksX41_before_0 4 rfl rfl)
theorem dX41_before_7 : decode cX41_before 7 = .ok (.iload_n 0, 1) := dk_26 (dk_at dksX41_before_0 7 rfl rfl)
theorem dX41_before_8 : decode cX41_before 8 = .ok (.sipush 1970, 3) := dk_17 7 178 (dk_at dksX41_before_0 8 rfl rfl)
theorem dX41_before_11 : decode cX41_before 11 = .ok (.isub, 1) := dk_100 (dk_at dksX41_before_0 11 rfl rfl)
theorem dX41_before_12 : decode cX41_before 12 = .ok (.imul, 1) := dk_104 (dk_at dksX41_before_0 12 rfl rfl)
theorem dX41_before_13 : decode cX41_before 13 = .ok (.iload_n 1, 1) := dk_27 (dk_at dksX41_before_0 13 rfl rfl)
theorem dX41_before_14 : decode cX41_before 14 = .ok (.iconst 4, 1) := dk_7 (dk_at dksX41_before_0 14 rfl rfl)
theorem dX41_before_15 : decode cX41_before 15 = .ok (.invokestatic 19, 3) := dk_184 0 19 (dk_at dksX41_before_0 15 rfl rfl)
theorem dX41_before_18 : decode cX41_before 18 = .ok (.iadd, 1) := dk_96 (dk_at dksX41_before_0 18 rfl rfl)
theorem dX41_before_19 : decode cX41_before 19 = .ok (.iload_n 1, 1) := dk_27 (dk_at dksX41_before_0 19 rfl rfl)
theorem dX41_before_20 : decode cX41_before 20 = .ok (.bipush 100, 2) := dk_16 100 (dk_at dksX41_before_0 20 rfl rfl)
theorem dX41_before_22 : decode cX41_before 22 = .ok (.invokestatic 19, 3) := dk_184 0 19 (dk_at dksX41_before_1 0 rfl rfl)
theorem dX41_before_25 : decode cX41_before 25 = .ok (.isub, 1) := dk_100 (dk_at dksX41_before_1 3 rfl rfl)
theorem dX41_before_26 : decode cX41_before 26 = .ok (.iload_n 1, 1) := dk_27 (dk_at dksX41_before_1 4 rfl rfl)
theorem dX41_before_27 : decode cX41_before 27 = .ok (.sipush 400, 3) := dk_17 1 144 (dk_at dksX41_before_1 5 rfl rfl)
theorem dX41_before_30 : decode cX41_before 30 = .ok (.invokestatic 19, 3) := dk_184 0 19 (dk_at dksX41_before_1 8 rfl rfl)
theorem dX41_before_33 : decode cX41_before 33 = .ok (.iadd, 1) := dk_96 (dk_at dksX41_before_1 11 rfl rfl)
theorem dX41_before_34 : decode cX41_before 34 = .ok (.sipush 477, 3) := dk_17 1 221 (dk_at dksX41_before_1 12 rfl rfl)
theorem dX41_before_37 : decode cX41_before 37 = .ok (.isub, 1) := dk_100 (dk_at dksX41_before_1 15 rfl rfl)
theorem dX41_before_38 : decode cX41_before 38 = .ok (.ireturn, 1) := dk_172 (dk_at dksX41_before_1 16 rfl rfl)
abbrev cX41_floor : ByteArray := prog_6_method_4_code
def yX41_floor : MethodName := ⟨RX41, "floo\x72", "(II)I"⟩
def dkwX41_floor_0 : List UInt8 := [26, 26, 27, 184, 0, 7, 100, 27, 108, 172]
abbrev dktX41_floor_0 : List UInt8 := dkwX41_floor_0 ++ []
theorem dksX41_floor_0 : cX41_floor.data.toList.drop 0 = dktX41_floor_0 := by decide +kernel
theorem dX41_floor_0 : decode cX41_floor 0 = .ok (.iload_n 0, 1) := dk_26 (dk_at dksX41_floor_0 0 rfl rfl)
theorem dX41_floor_1 : decode cX41_floor 1 = .ok (.iload_n 0, 1) := dk_26 (dk_at dksX41_floor_0 1 rfl rfl)
theorem dX41_floor_2 : decode cX41_floor 2 = .ok (.iload_n 1, 1) := dk_27 (dk_at dksX41_floor_0 2 rfl rfl)
theorem dX41_floor_3 : decode cX41_floor 3 = .ok (.invokestatic 7, 3) := dk_184 0 7 (dk_at dksX41_floor_0 3 rfl rfl)
theorem dX41_floor_6 : decode cX41_floor 6 = .ok (.isub, 1) := dk_100 (dk_at dksX41_floor_0 6 rfl rfl)
theorem dX41_floor_7 : decode cX41_floor 7 = .ok (.iload_n 1, 1) := dk_27 (dk_at dksX41_floor_0 7 rfl rfl)
theorem dX41_floor_8 : decode cX41_floor 8 = .ok (.idiv, 1) := dk_108 (dk_at dksX41_floor_0 8 rfl rfl)
theorem dX41_floor_9 : decode cX41_floor 9 = .ok (.ireturn, 1) := dk_172 (dk_at dksX41_floor_0 9 rfl rfl)
abbrev cX41_isDay : ByteArray := prog_6_method_7_code
def yX41_isDay : MethodName := ⟨RX41, "isDay", "(I)Z"⟩
def dkwX41_isDay_1 : List UInt8 := [3, 172]
abbrev dktX41_isDay_1 : List UInt8 := dkwX41_isDay_1 ++ []
def dkwX41_isDay_0 : List UInt8 := [26, 17, 216, 241, 184, 0, 22, 161, 0, 17, 26, 17, 39, 16, 184, 0, 22, 162, 0, 7, 4, 167, 0, 4]
abbrev dktX41_isDay_0 : List UInt8 := dkwX41_isDay_0 ++ dktX41_isDay_1
theorem dksX41_isDay_0 : cX41_isDay.data.toList.drop 0 = dktX41_isDay_0 := by decide +kernel
theorem dksX41_isDay_1 : cX41_isDay.data.toList.drop 24 = dktX41_isDay_1 := dk_seg dksX41_isDay_0 24 rfl rfl
theorem dX41_isDay_0 : decode cX41_isDay 0 = .ok (.iload_n 0, 1) := dk_26 (dk_at dksX41_isDay_0 0 rfl rfl)
theorem dX41_isDay_1 : decode cX41_isDay 1 = .ok (.sipush (-9999), 3) := dk_17 216 241 (dk_at dksX41_isDay_0 1 rfl rfl)
theorem dX41_isDay_4 : decode cX41_isDay 4 = .ok (.invokestatic 22, 3) := dk_184 0 22 (dk_at dksX41_isDay_0 4 rfl rfl)
theorem dX41_isDay_7 : decode cX41_isDay 7 = .ok (.if_icmp .lt 17, 3) := dk_161 0 17 (dk_at dksX41_isDay_0 7 rfl rfl)
theorem dX41_isDay_10 : decode cX41_isDay 10 = .ok (.iload_n 0, 1) := dk_26 (dk_at dksX41_isDay_0 10 rfl rfl)
theorem dX41_isDay_11 : decode cX41_isDay 11 = .ok (.sipush 10000, 3) := dk_17 39 16 (dk_at dksX41_isDay_0 11 rfl rfl)
theorem dX41_isDay_14 : decode cX41_isDay 14 = .ok (.invokestatic 22, 3) := dk_184 0 22 (dk_at dksX41_isDay_0 14 rfl rfl)
theorem dX41_isDay_17 : decode cX41_isDay 17 = .ok (.if_icmp .ge 7, 3) := dk_162 0 7 (dk_at dksX41_isDay_0 17 rfl rfl)
theorem dX41_isDay_20 : decode cX41_isDay 20 = .ok (.iconst 1, 1) := dk_4 (dk_at dksX41_isDay_0 20 rfl rfl)
theorem dX41_isDay_21 : decode cX41_isDay 21 = .ok (.goto 4, 3) := dk_167 0 4 (dk_at dksX41_isDay_0 21 rfl rfl)
theorem dX41_isDay_24 : decode cX41_isDay 24 = .ok (.iconst 0, 1) := dk_3 (dk_at dksX41_isDay_1 0 rfl rfl)
theorem dX41_isDay_25 : decode cX41_isDay 25 = .ok (.ireturn, 1) := dk_172 (dk_at dksX41_isDay_1 1 rfl rfl)
abbrev cX41_part : ByteArray := prog_6_method_13_code
def yX41_part : MethodName := ⟨RX41, "part", "(II)I"⟩
def dkwX41_part_5 : List UInt8 := [184, 0, 32, 184, 0, 26, 172]
abbrev dktX41_part_5 : List UInt8 := dkwX41_part_5 ++ []
def dkwX41_part_4 : List UInt8 := [184, 0, 29, 184, 0, 22, 100, 16, 7, 108, 4, 96, 172, 26, 184, 0, 45, 184, 0, 29, 172, 28, 26]
abbrev dktX41_part_4 : List UInt8 := dkwX41_part_4 ++ dktX41_part_5
def dkwX41_part_3 : List UInt8 := [96, 172, 28, 184, 0, 13, 153, 0, 7, 4, 167, 0, 4, 3, 172, 26, 184, 0, 45, 26, 184, 0, 45]
abbrev dktX41_part_3 : List UInt8 := dkwX41_part_3 ++ dktX41_part_4
def dkwX41_part_2 : List UInt8 := [28, 172, 26, 184, 0, 32, 172, 26, 184, 0, 42, 172, 26, 184, 0, 39, 172, 26, 28, 184, 0, 22, 100, 4]
abbrev dktX41_part_2 : List UInt8 := dkwX41_part_2 ++ dktX41_part_3
def dkwX41_part_1 : List UInt8 := [170, 0, 0, 0, 0, 114, 0, 0, 0, 0, 0, 0, 0, 7, 0, 0, 0, 46, 0, 0, 0, 48, 0, 0, 0, 53, 0, 0, 0, 58, 0, 0, 0, 63, 0, 0, 0, 72, 0, 0, 0, 85, 0, 0, 0, 106]
abbrev dktX41_part_1 : List UInt8 := dkwX41_part_1 ++ dktX41_part_2
def dkwX41_part_0 : List UInt8 := [26, 184, 0, 29, 61, 27]
abbrev dktX41_part_0 : List UInt8 := dkwX41_part_0 ++ dktX41_part_1
theorem dksX41_part_0 : cX41_part.data.toList.drop 0 = dktX41_part_0 := by decide +kernel
theorem dksX41_part_1 : cX41_part.data.toList.drop 6 = dktX41_part_1 := dk_seg dksX41_part_0 6 rfl rfl
theorem dksX41_part_2 : cX41_part.data.toList.drop 52 = dktX41_part_2 := dk_seg dksX41_part_1 46 rfl rfl
theorem dksX41_part_3 : cX41_part.data.toList.drop 76 = dktX41_part_3 := dk_seg dksX41_part_2 24 rfl rfl
theorem dksX41_part_4 : cX41_part.data.toList.drop 99 = dktX41_part_4 := dk_seg dksX41_part_3 23 rfl rfl
theorem dksX41_part_5 : cX41_part.data.toList.drop 122 = dktX41_part_5 := dk_seg dksX41_part_4 23 rfl rfl
theorem dX41_part_0 : decode cX41_part 0 = .ok (.iload_n 0, 1) := dk_26 (dk_at dksX41_part_0 0 rfl rfl)
theorem dX41_part_1 : decode cX41_part 1 = .ok (.invokestatic 29, 3) := dk_184 0 29 (dk_at dksX41_part_0 1 rfl rfl)
theorem dX41_part_4 : decode cX41_part 4 = .ok (.istore_n 2, 1) := dk_61 (dk_at dksX41_part_0 4 rfl rfl)
theorem dX41_part_5 : decode cX41_part 5 = .ok (.iload_n 1, 1) := dk_27 (dk_at dksX41_part_0 5 rfl rfl)
theorem dX41_part_6 : decode cX41_part 6 = .ok (.tableswitch 114 0 7 #[46, 48, 53, 58, 63, 72, 85, 106], 46) := by decide +kernel
theorem dX41_part_52 : decode cX41_part 52 = .ok (.iload_n 2, 1) := dk_28 (dk_at dksX41_part_2 0 rfl rfl)
theorem dX41_part_53 : decode cX41_part 53 = .ok (.ireturn, 1) := dk_172 (dk_at dksX41_part_2 1 rfl rfl)
theorem dX41_part_54 : decode cX41_part 54 = .ok (.iload_n 0, 1) := dk_26 (dk_at dksX41_part_2 2 rfl rfl)
theorem dX41_part_55 : decode cX41_part 55 = .ok (.invokestatic 32, 3) := dk_184 0 32 (dk_at dksX41_part_2 3 rfl rfl)
theorem dX41_part_58 : decode cX41_part 58 = .ok (.ireturn, 1) := dk_172 (dk_at dksX41_part_2 6 rfl rfl)
theorem dX41_part_59 : decode cX41_part 59 = .ok (.iload_n 0, 1) := dk_26 (dk_at dksX41_part_2 7 rfl rfl)
theorem dX41_part_60 : decode cX41_part 60 = .ok (.invokestatic 42, 3) := dk_184 0 42 (dk_at dksX41_part_2 8 rfl rfl)
theorem dX41_part_63 : decode cX41_part 63 = .ok (.ireturn, 1) := dk_172 (dk_at dksX41_part_2 11 rfl rfl)
theorem dX41_part_64 : decode cX41_part 64 = .ok (.iload_n 0, 1) := dk_26 (dk_at dksX41_part_2 12 rfl rfl)
theorem dX41_part_65 : decode cX41_part 65 = .ok (.invokestatic 39, 3) := dk_184 0 39 (dk_at dksX41_part_2 13 rfl rfl)
theorem dX41_part_68 : decode cX41_part 68 = .ok (.ireturn, 1) := dk_172 (dk_at dksX41_part_2 16 rfl rfl)
theorem dX41_part_69 : decode cX41_part 69 = .ok (.iload_n 0, 1) := dk_26 (dk_at dksX41_part_2 17 rfl rfl)
theorem dX41_part_70 : decode cX41_part 70 = .ok (.iload_n 2, 1) := dk_28 (dk_at dksX41_part_2 18 rfl rfl)
theorem dX41_part_71 : decode cX41_part 71 = .ok (.invokestatic 22, 3) := dk_184 0 22 (dk_at dksX41_part_2 19 rfl rfl)
theorem dX41_part_74 : decode cX41_part 74 = .ok (.isub, 1) := dk_100 (dk_at dksX41_part_2 22 rfl rfl)
theorem dX41_part_75 : decode cX41_part 75 = .ok (.iconst 1, 1) := dk_4 (dk_at dksX41_part_2 23 rfl rfl)
theorem dX41_part_76 : decode cX41_part 76 = .ok (.iadd, 1) := dk_96 (dk_at dksX41_part_3 0 rfl rfl)
theorem dX41_part_77 : decode cX41_part 77 = .ok (.ireturn, 1) := dk_172 (dk_at dksX41_part_3 1 rfl rfl)
theorem dX41_part_78 : decode cX41_part 78 = .ok (.iload_n 2, 1) := dk_28 (dk_at dksX41_part_3 2 rfl rfl)
theorem dX41_part_79 : decode cX41_part 79 = .ok (.invokestatic 13, 3) := dk_184 0 13 (dk_at dksX41_part_3 3 rfl rfl)
theorem dX41_part_82 : decode cX41_part 82 = .ok (.ifCond .eq 7, 3) := dk_153 0 7 (dk_at dksX41_part_3 6 rfl rfl)
theorem dX41_part_85 : decode cX41_part 85 = .ok (.iconst 1, 1) := dk_4 (dk_at dksX41_part_3 9 rfl rfl)
theorem dX41_part_86 : decode cX41_part 86 = .ok (.goto 4, 3) := dk_167 0 4 (dk_at dksX41_part_3 10 rfl rfl)
theorem dX41_part_89 : decode cX41_part 89 = .ok (.iconst 0, 1) := dk_3 (dk_at dksX41_part_3 13 rfl rfl)
theorem dX41_part_90 : decode cX41_part 90 = .ok (.ireturn, 1) := dk_172 (dk_at dksX41_part_3 14 rfl rfl)
theorem dX41_part_91 : decode cX41_part 91 = .ok (.iload_n 0, 1) := dk_26 (dk_at dksX41_part_3 15 rfl rfl)
theorem dX41_part_92 : decode cX41_part 92 = .ok (.invokestatic 45, 3) := dk_184 0 45 (dk_at dksX41_part_3 16 rfl rfl)
theorem dX41_part_95 : decode cX41_part 95 = .ok (.iload_n 0, 1) := dk_26 (dk_at dksX41_part_3 19 rfl rfl)
theorem dX41_part_96 : decode cX41_part 96 = .ok (.invokestatic 45, 3) := dk_184 0 45 (dk_at dksX41_part_3 20 rfl rfl)
theorem dX41_part_99 : decode cX41_part 99 = .ok (.invokestatic 29, 3) := dk_184 0 29 (dk_at dksX41_part_4 0 rfl rfl)
theorem dX41_part_102 : decode cX41_part 102 = .ok (.invokestatic 22, 3) := dk_184 0 22 (dk_at dksX41_part_4 3 rfl rfl)
theorem dX41_part_105 : decode cX41_part 105 = .ok (.isub, 1) := dk_100 (dk_at dksX41_part_4 6 rfl rfl)
theorem dX41_part_106 : decode cX41_part 106 = .ok (.bipush 7, 2) := dk_16 7 (dk_at dksX41_part_4 7 rfl rfl)
theorem dX41_part_108 : decode cX41_part 108 = .ok (.idiv, 1) := dk_108 (dk_at dksX41_part_4 9 rfl rfl)
theorem dX41_part_109 : decode cX41_part 109 = .ok (.iconst 1, 1) := dk_4 (dk_at dksX41_part_4 10 rfl rfl)
theorem dX41_part_110 : decode cX41_part 110 = .ok (.iadd, 1) := dk_96 (dk_at dksX41_part_4 11 rfl rfl)
theorem dX41_part_111 : decode cX41_part 111 = .ok (.ireturn, 1) := dk_172 (dk_at dksX41_part_4 12 rfl rfl)
theorem dX41_part_112 : decode cX41_part 112 = .ok (.iload_n 0, 1) := dk_26 (dk_at dksX41_part_4 13 rfl rfl)
theorem dX41_part_113 : decode cX41_part 113 = .ok (.invokestatic 45, 3) := dk_184 0 45 (dk_at dksX41_part_4 14 rfl rfl)
theorem dX41_part_116 : decode cX41_part 116 = .ok (.invokestatic 29, 3) := dk_184 0 29 (dk_at dksX41_part_4 17 rfl rfl)
theorem dX41_part_119 : decode cX41_part 119 = .ok (.ireturn, 1) := dk_172 (dk_at dksX41_part_4 20 rfl rfl)
theorem dX41_part_120 : decode cX41_part 120 = .ok (.iload_n 2, 1) := dk_28 (dk_at dksX41_part_4 21 rfl rfl)
theorem dX41_part_121 : decode cX41_part 121 = .ok (.iload_n 0, 1) := dk_26 (dk_at dksX41_part_4 22 rfl rfl)
theorem dX41_part_122 : decode cX41_part 122 = .ok (.invokestatic 32, 3) := dk_184 0 32 (dk_at dksX41_part_5 0 rfl rfl)
theorem dX41_part_125 : decode cX41_part 125 = .ok (.invokestatic 26, 3) := dk_184 0 26 (dk_at dksX41_part_5 3 rfl rfl)
theorem dX41_part_128 : decode cX41_part 128 = .ok (.ireturn, 1) := dk_172 (dk_at dksX41_part_5 6 rfl rfl)
abbrev cX41_year : ByteArray := prog_6_method_8_code
def yX41_year : MethodName := ⟨RX41, "yea\x72", "(I)I"⟩
def dkwX41_year_1 : List UInt8 := [132, 1, 1, 167, 255, 243, 27, 184, 0, 22, 26, 164, 0, 9, 132, 1, 255, 167, 255, 245, 27, 172]
abbrev dktX41_year_1 : List UInt8 := dkwX41_year_1 ++ []
def dkwX41_year_0 : List UInt8 := [17, 7, 178, 26, 17, 1, 110, 184, 0, 19, 96, 60, 27, 4, 96, 184, 0, 22, 26, 163, 0, 9]
abbrev dktX41_year_0 : List UInt8 := dkwX41_year_0 ++ dktX41_year_1
theorem dksX41_year_0 : cX41_year.data.toList.drop 0 = dktX41_year_0 := by decide +kernel
theorem dksX41_year_1 : cX41_year.data.toList.drop 22 = dktX41_year_1 := dk_seg dksX41_year_0 22 rfl rfl
theorem dX41_year_0 : decode cX41_year 0 = .ok (.sipush 1970, 3) := dk_17 7 178 (dk_at dksX41_year_0 0 rfl rfl)
theorem dX41_year_3 : decode cX41_year 3 = .ok (.iload_n 0, 1) := dk_26 (dk_at dksX41_year_0 3 rfl rfl)
theorem dX41_year_4 : decode cX41_year 4 = .ok (.sipush 366, 3) := dk_17 1 110 (dk_at dksX41_year_0 4 rfl rfl)
theorem dX41_year_7 : decode cX41_year 7 = .ok (.invokestatic 19, 3) := dk_184 0 19 (dk_at dksX41_year_0 7 rfl rfl)
theorem dX41_year_10 : decode cX41_year 10 = .ok (.iadd, 1) := dk_96 (dk_at dksX41_year_0 10 rfl rfl)
theorem dX41_year_11 : decode cX41_year 11 = .ok (.istore_n 1, 1) := dk_60 (dk_at dksX41_year_0 11 rfl rfl)
theorem dX41_year_12 : decode cX41_year 12 = .ok (.iload_n 1, 1) := dk_27 (dk_at dksX41_year_0 12 rfl rfl)
theorem dX41_year_13 : decode cX41_year 13 = .ok (.iconst 1, 1) := dk_4 (dk_at dksX41_year_0 13 rfl rfl)
theorem dX41_year_14 : decode cX41_year 14 = .ok (.iadd, 1) := dk_96 (dk_at dksX41_year_0 14 rfl rfl)
theorem dX41_year_15 : decode cX41_year 15 = .ok (.invokestatic 22, 3) := dk_184 0 22 (dk_at dksX41_year_0 15 rfl rfl)
theorem dX41_year_18 : decode cX41_year 18 = .ok (.iload_n 0, 1) := dk_26 (dk_at dksX41_year_0 18 rfl rfl)
theorem dX41_year_19 : decode cX41_year 19 = .ok (.if_icmp .gt 9, 3) := dk_163 0 9 (dk_at dksX41_year_0 19 rfl rfl)
theorem dX41_year_22 : decode cX41_year 22 = .ok (.iinc 1 1, 3) := dk_132 1 1 (dk_at dksX41_year_1 0 rfl rfl)
theorem dX41_year_25 : decode cX41_year 25 = .ok (.goto (-13), 3) := dk_167 255 243 (dk_at dksX41_year_1 3 rfl rfl)
theorem dX41_year_28 : decode cX41_year 28 = .ok (.iload_n 1, 1) := dk_27 (dk_at dksX41_year_1 6 rfl rfl)
theorem dX41_year_29 : decode cX41_year 29 = .ok (.invokestatic 22, 3) := dk_184 0 22 (dk_at dksX41_year_1 7 rfl rfl)
theorem dX41_year_32 : decode cX41_year 32 = .ok (.iload_n 0, 1) := dk_26 (dk_at dksX41_year_1 10 rfl rfl)
theorem dX41_year_33 : decode cX41_year 33 = .ok (.if_icmp .le 9, 3) := dk_164 0 9 (dk_at dksX41_year_1 11 rfl rfl)
theorem dX41_year_36 : decode cX41_year 36 = .ok (.iinc 1 (-1), 3) := dk_132 1 255 (dk_at dksX41_year_1 14 rfl rfl)
theorem dX41_year_39 : decode cX41_year 39 = .ok (.goto (-11), 3) := dk_167 255 245 (dk_at dksX41_year_1 17 rfl rfl)
theorem dX41_year_42 : decode cX41_year 42 = .ok (.iload_n 1, 1) := dk_27 (dk_at dksX41_year_1 20 rfl rfl)
theorem dX41_year_43 : decode cX41_year 43 = .ok (.ireturn, 1) := dk_172 (dk_at dksX41_year_1 21 rfl rfl)
abbrev cX41_month : ByteArray := prog_6_method_9_code
def yX41_month : MethodName := ⟨RX41, "month", "(I)I"⟩
def dkwX41_month_1 : List UInt8 := [27, 29, 184, 0, 26, 100, 61, 132, 3, 1, 167, 255, 236, 29, 172]
abbrev dktX41_month_1 : List UInt8 := dkwX41_month_1 ++ []
def dkwX41_month_0 : List UInt8 := [26, 184, 0, 29, 60, 26, 27, 184, 0, 22, 100, 61, 4, 62, 28, 27, 29, 184, 0, 26, 161, 0, 17, 28]
abbrev dktX41_month_0 : List UInt8 := dkwX41_month_0 ++ dktX41_month_1
theorem dksX41_month_0 : cX41_month.data.toList.drop 0 = dktX41_month_0 := by decide +kernel
theorem dksX41_month_1 : cX41_month.data.toList.drop 24 = dktX41_month_1 := dk_seg dksX41_month_0 24 rfl rfl
theorem dX41_month_0 : decode cX41_month 0 = .ok (.iload_n 0, 1) := dk_26 (dk_at dksX41_month_0 0 rfl rfl)
theorem dX41_month_1 : decode cX41_month 1 = .ok (.invokestatic 29, 3) := dk_184 0 29 (dk_at dksX41_month_0 1 rfl rfl)
theorem dX41_month_4 : decode cX41_month 4 = .ok (.istore_n 1, 1) := dk_60 (dk_at dksX41_month_0 4 rfl rfl)
theorem dX41_month_5 : decode cX41_month 5 = .ok (.iload_n 0, 1) := dk_26 (dk_at dksX41_month_0 5 rfl rfl)
theorem dX41_month_6 : decode cX41_month 6 = .ok (.iload_n 1, 1) := dk_27 (dk_at dksX41_month_0 6 rfl rfl)
theorem dX41_month_7 : decode cX41_month 7 = .ok (.invokestatic 22, 3) := dk_184 0 22 (dk_at dksX41_month_0 7 rfl rfl)
theorem dX41_month_10 : decode cX41_month 10 = .ok (.isub, 1) := dk_100 (dk_at dksX41_month_0 10 rfl rfl)
theorem dX41_month_11 : decode cX41_month 11 = .ok (.istore_n 2, 1) := dk_61 (dk_at dksX41_month_0 11 rfl rfl)
theorem dX41_month_12 : decode cX41_month 12 = .ok (.iconst 1, 1) := dk_4 (dk_at dksX41_month_0 12 rfl rfl)
theorem dX41_month_13 : decode cX41_month 13 = .ok (.istore_n 3, 1) := dk_62 (dk_at dksX41_month_0 13 rfl rfl)
theorem dX41_month_14 : decode cX41_month 14 = .ok (.iload_n 2, 1) := dk_28 (dk_at dksX41_month_0 14 rfl rfl)
theorem dX41_month_15 : decode cX41_month 15 = .ok (.iload_n 1, 1) := dk_27 (dk_at dksX41_month_0 15 rfl rfl)
theorem dX41_month_16 : decode cX41_month 16 = .ok (.iload_n 3, 1) := dk_29 (dk_at dksX41_month_0 16 rfl rfl)
theorem dX41_month_17 : decode cX41_month 17 = .ok (.invokestatic 26, 3) := dk_184 0 26 (dk_at dksX41_month_0 17 rfl rfl)
theorem dX41_month_20 : decode cX41_month 20 = .ok (.if_icmp .lt 17, 3) := dk_161 0 17 (dk_at dksX41_month_0 20 rfl rfl)
theorem dX41_month_23 : decode cX41_month 23 = .ok (.iload_n 2, 1) := dk_28 (dk_at dksX41_month_0 23 rfl rfl)
theorem dX41_month_24 : decode cX41_month 24 = .ok (.iload_n 1, 1) := dk_27 (dk_at dksX41_month_1 0 rfl rfl)
theorem dX41_month_25 : decode cX41_month 25 = .ok (.iload_n 3, 1) := dk_29 (dk_at dksX41_month_1 1 rfl rfl)
theorem dX41_month_26 : decode cX41_month 26 = .ok (.invokestatic 26, 3) := dk_184 0 26 (dk_at dksX41_month_1 2 rfl rfl)
theorem dX41_month_29 : decode cX41_month 29 = .ok (.isub, 1) := dk_100 (dk_at dksX41_month_1 5 rfl rfl)
theorem dX41_month_30 : decode cX41_month 30 = .ok (.istore_n 2, 1) := dk_61 (dk_at dksX41_month_1 6 rfl rfl)
theorem dX41_month_31 : decode cX41_month 31 = .ok (.iinc 3 1, 3) := dk_132 3 1 (dk_at dksX41_month_1 7 rfl rfl)
theorem dX41_month_34 : decode cX41_month 34 = .ok (.goto (-20), 3) := dk_167 255 236 (dk_at dksX41_month_1 10 rfl rfl)
theorem dX41_month_37 : decode cX41_month 37 = .ok (.iload_n 3, 1) := dk_29 (dk_at dksX41_month_1 13 rfl rfl)
theorem dX41_month_38 : decode cX41_month 38 = .ok (.ireturn, 1) := dk_172 (dk_at dksX41_month_1 14 rfl rfl)
abbrev cX41_dayOfMonth : ByteArray := prog_6_method_10_code
def yX41_dayOfMonth : MethodName := ⟨RX41, "dayOfMonth", "(I)I"⟩
def dkwX41_dayOfMonth_0 : List UInt8 := [26, 26, 184, 0, 29, 26, 184, 0, 32, 4, 184, 0, 35, 100, 4, 96, 172]
abbrev dktX41_dayOfMonth_0 : List UInt8 := dkwX41_dayOfMonth_0 ++ []
theorem dksX41_dayOfMonth_0 : cX41_dayOfMonth.data.toList.drop 0 = dktX41_dayOfMonth_0 := by decide +kernel
theorem dX41_dayOfMonth_0 : decode cX41_dayOfMonth 0 = .ok (.iload_n 0, 1) := dk_26 (dk_at dksX41_dayOfMonth_0 0 rfl rfl)
theorem dX41_dayOfMonth_1 : decode cX41_dayOfMonth 1 = .ok (.iload_n 0, 1) := dk_26 (dk_at dksX41_dayOfMonth_0 1 rfl rfl)
theorem dX41_dayOfMonth_2 : decode cX41_dayOfMonth 2 = .ok (.invokestatic 29, 3) := dk_184 0 29 (dk_at dksX41_dayOfMonth_0 2 rfl rfl)
theorem dX41_dayOfMonth_5 : decode cX41_dayOfMonth 5 = .ok (.iload_n 0, 1) := dk_26 (dk_at dksX41_dayOfMonth_0 5 rfl rfl)
theorem dX41_dayOfMonth_6 : decode cX41_dayOfMonth 6 = .ok (.invokestatic 32, 3) := dk_184 0 32 (dk_at dksX41_dayOfMonth_0 6 rfl rfl)
theorem dX41_dayOfMonth_9 : decode cX41_dayOfMonth 9 = .ok (.iconst 1, 1) := dk_4 (dk_at dksX41_dayOfMonth_0 9 rfl rfl)
theorem dX41_dayOfMonth_10 : decode cX41_dayOfMonth 10 = .ok (.invokestatic 35, 3) := dk_184 0 35 (dk_at dksX41_dayOfMonth_0 10 rfl rfl)
theorem dX41_dayOfMonth_13 : decode cX41_dayOfMonth 13 = .ok (.isub, 1) := dk_100 (dk_at dksX41_dayOfMonth_0 13 rfl rfl)
theorem dX41_dayOfMonth_14 : decode cX41_dayOfMonth 14 = .ok (.iconst 1, 1) := dk_4 (dk_at dksX41_dayOfMonth_0 14 rfl rfl)
theorem dX41_dayOfMonth_15 : decode cX41_dayOfMonth 15 = .ok (.iadd, 1) := dk_96 (dk_at dksX41_dayOfMonth_0 15 rfl rfl)
theorem dX41_dayOfMonth_16 : decode cX41_dayOfMonth 16 = .ok (.ireturn, 1) := dk_172 (dk_at dksX41_dayOfMonth_0 16 rfl rfl)
abbrev cX41_weekDay : ByteArray := prog_6_method_11_code
def yX41_weekDay : MethodName := ⟨RX41, "weekDay", "(I)I"⟩
def dkwX41_weekDay_0 : List UInt8 := [26, 6, 96, 16, 7, 184, 0, 7, 4, 96, 172]
abbrev dktX41_weekDay_0 : List UInt8 := dkwX41_weekDay_0 ++ []
theorem dksX41_weekDay_0 : cX41_weekDay.data.toList.drop 0 = dktX41_weekDay_0 := by decide +kernel
theorem dX41_weekDay_0 : decode cX41_weekDay 0 = .ok (.iload_n 0, 1) := dk_26 (dk_at dksX41_weekDay_0 0 rfl rfl)
theorem dX41_weekDay_1 : decode cX41_weekDay 1 = .ok (.iconst 3, 1) := dk_6 (dk_at dksX41_weekDay_0 1 rfl rfl)
theorem dX41_weekDay_2 : decode cX41_weekDay 2 = .ok (.iadd, 1) := dk_96 (dk_at dksX41_weekDay_0 2 rfl rfl)
theorem dX41_weekDay_3 : decode cX41_weekDay 3 = .ok (.bipush 7, 2) := dk_16 7 (dk_at dksX41_weekDay_0 3 rfl rfl)
theorem dX41_weekDay_5 : decode cX41_weekDay 5 = .ok (.invokestatic 7, 3) := dk_184 0 7 (dk_at dksX41_weekDay_0 5 rfl rfl)
theorem dX41_weekDay_8 : decode cX41_weekDay 8 = .ok (.iconst 1, 1) := dk_4 (dk_at dksX41_weekDay_0 8 rfl rfl)
theorem dX41_weekDay_9 : decode cX41_weekDay 9 = .ok (.iadd, 1) := dk_96 (dk_at dksX41_weekDay_0 9 rfl rfl)
theorem dX41_weekDay_10 : decode cX41_weekDay 10 = .ok (.ireturn, 1) := dk_172 (dk_at dksX41_weekDay_0 10 rfl rfl)
abbrev cX41_thursday : ByteArray := prog_6_method_12_code
def yX41_thursday : MethodName := ⟨RX41, "thursday", "(I)I"⟩
def dkwX41_thursday_0 : List UInt8 := [26, 26, 184, 0, 39, 100, 7, 96, 172]
abbrev dktX41_thursday_0 : List UInt8 := dkwX41_thursday_0 ++ []
theorem dksX41_thursday_0 : cX41_thursday.data.toList.drop 0 = dktX41_thursday_0 := by decide +kernel
theorem dX41_thursday_0 : decode cX41_thursday 0 = .ok (.iload_n 0, 1) := dk_26 (dk_at dksX41_thursday_0 0 rfl rfl)
theorem dX41_thursday_1 : decode cX41_thursday 1 = .ok (.iload_n 0, 1) := dk_26 (dk_at dksX41_thursday_0 1 rfl rfl)
theorem dX41_thursday_2 : decode cX41_thursday 2 = .ok (.invokestatic 39, 3) := dk_184 0 39 (dk_at dksX41_thursday_0 2 rfl rfl)
theorem dX41_thursday_5 : decode cX41_thursday 5 = .ok (.isub, 1) := dk_100 (dk_at dksX41_thursday_0 5 rfl rfl)
theorem dX41_thursday_6 : decode cX41_thursday 6 = .ok (.iconst 4, 1) := dk_7 (dk_at dksX41_thursday_0 6 rfl rfl)
theorem dX41_thursday_7 : decode cX41_thursday 7 = .ok (.iadd, 1) := dk_96 (dk_at dksX41_thursday_0 7 rfl rfl)
theorem dX41_thursday_8 : decode cX41_thursday 8 = .ok (.ireturn, 1) := dk_172 (dk_at dksX41_thursday_0 8 rfl rfl)
abbrev cX41_plus : ByteArray := prog_6_method_14_code
def yX41_plus : MethodName := ⟨RX41, "plus", "(III)I"⟩
def dkwX41_plus_7 : List UInt8 := [184, 0, 26, 184, 0, 35, 172]
abbrev dktX41_plus_7 : List UInt8 := dkwX41_plus_7 ++ []
def dkwX41_plus_6 : List UInt8 := [21, 6, 21, 7, 21, 5, 21, 6, 184, 0, 26, 162, 0, 8, 21, 7, 167, 0, 10, 21, 5, 21, 6]
abbrev dktX41_plus_6 : List UInt8 := dkwX41_plus_6 ++ dktX41_plus_7
def dkwX41_plus_5 : List UInt8 := [184, 0, 19, 54, 5, 33, 136, 16, 12, 184, 0, 7, 4, 96, 54, 6, 26, 184, 0, 42, 54, 7, 21, 5]
abbrev dktX41_plus_5 : List UInt8 := dkwX41_plus_5 ++ dktX41_plus_6
def dkwX41_plus_4 : List UInt8 := [148, 155, 0, 15, 33, 20, 0, 58, 148, 156, 0, 7, 4, 167, 0, 4, 3, 184, 0, 50, 33, 136, 16, 12]
abbrev dktX41_plus_4 : List UInt8 := dkwX41_plus_4 ++ dktX41_plus_5
def dkwX41_plus_3 : List UInt8 := [105, 20, 0, 54, 26, 184, 0, 29, 133, 105, 97, 26, 184, 0, 32, 133, 97, 10, 101, 66, 33, 20, 0, 56]
abbrev dktX41_plus_3 : List UInt8 := dkwX41_plus_3 ++ dktX41_plus_4
def dkwX41_plus_2 : List UInt8 := [167, 0, 4, 3, 184, 0, 50, 33, 136, 172, 27, 5, 160, 0, 7, 10, 167, 0, 6, 20, 0, 54, 28, 133]
abbrev dktX41_plus_2 : List UInt8 := dkwX41_plus_2 ++ dktX41_plus_3
def dkwX41_plus_1 : List UInt8 := [17, 216, 241, 184, 0, 22, 133, 148, 155, 0, 19, 33, 17, 39, 16, 184, 0, 22, 133, 148, 156, 0, 7, 4]
abbrev dktX41_plus_1 : List UInt8 := dkwX41_plus_1 ++ dktX41_plus_2
def dkwX41_plus_0 : List UInt8 := [27, 5, 162, 0, 56, 26, 133, 27, 154, 0, 7, 10, 167, 0, 6, 20, 0, 48, 28, 133, 105, 97, 66, 33]
abbrev dktX41_plus_0 : List UInt8 := dkwX41_plus_0 ++ dktX41_plus_1
theorem dksX41_plus_0 : cX41_plus.data.toList.drop 0 = dktX41_plus_0 := by decide +kernel
theorem dksX41_plus_1 : cX41_plus.data.toList.drop 24 = dktX41_plus_1 := dk_seg dksX41_plus_0 24 rfl rfl
theorem dksX41_plus_2 : cX41_plus.data.toList.drop 48 = dktX41_plus_2 := dk_seg dksX41_plus_1 24 rfl rfl
theorem dksX41_plus_3 : cX41_plus.data.toList.drop 72 = dktX41_plus_3 := dk_seg dksX41_plus_2 24 rfl rfl
theorem dksX41_plus_4 : cX41_plus.data.toList.drop 96 = dktX41_plus_4 := dk_seg dksX41_plus_3 24 rfl rfl
theorem dksX41_plus_5 : cX41_plus.data.toList.drop 120 = dktX41_plus_5 := dk_seg dksX41_plus_4 24 rfl rfl
theorem dksX41_plus_6 : cX41_plus.data.toList.drop 144 = dktX41_plus_6 := dk_seg dksX41_plus_5 24 rfl rfl
theorem dksX41_plus_7 : cX41_plus.data.toList.drop 167 = dktX41_plus_7 := dk_seg dksX41_plus_6 23 rfl rfl
theorem dX41_plus_0 : decode cX41_plus 0 = .ok (.iload_n 1, 1) := dk_27 (dk_at dksX41_plus_0 0 rfl rfl)
theorem dX41_plus_1 : decode cX41_plus 1 = .ok (.iconst 2, 1) := dk_5 (dk_at dksX41_plus_0 1 rfl rfl)
theorem dX41_plus_2 : decode cX41_plus 2 = .ok (.if_icmp .ge 56, 3) := dk_162 0 56 (dk_at dksX41_plus_0 2 rfl rfl)
theorem dX41_plus_5 : decode cX41_plus 5 = .ok (.iload_n 0, 1) := dk_26 (dk_at dksX41_plus_0 5 rfl rfl)
theorem dX41_plus_6 : decode cX41_plus 6 = .ok (.i2l, 1) := dk_133 (dk_at dksX41_plus_0 6 rfl rfl)
theorem dX41_plus_7 : decode cX41_plus 7 = .ok (.iload_n 1, 1) := dk_27 (dk_at dksX41_plus_0 7 rfl rfl)
theorem dX41_plus_8 : decode cX41_plus 8 = .ok (.ifCond .ne 7, 3) := dk_154 0 7 (dk_at dksX41_plus_0 8 rfl rfl)
theorem dX41_plus_11 : decode cX41_plus 11 = .ok (.lconst 1, 1) := dk_10 (dk_at dksX41_plus_0 11 rfl rfl)
theorem dX41_plus_12 : decode cX41_plus 12 = .ok (.goto 6, 3) := dk_167 0 6 (dk_at dksX41_plus_0 12 rfl rfl)
theorem dX41_plus_15 : decode cX41_plus 15 = .ok (.ldc2_w 48, 3) := dk_20 0 48 (dk_at dksX41_plus_0 15 rfl rfl)
theorem dX41_plus_18 : decode cX41_plus 18 = .ok (.iload_n 2, 1) := dk_28 (dk_at dksX41_plus_0 18 rfl rfl)
theorem dX41_plus_19 : decode cX41_plus 19 = .ok (.i2l, 1) := dk_133 (dk_at dksX41_plus_0 19 rfl rfl)
theorem dX41_plus_20 : decode cX41_plus 20 = .ok (.lmul, 1) := dk_105 (dk_at dksX41_plus_0 20 rfl rfl)
theorem dX41_plus_21 : decode cX41_plus 21 = .ok (.ladd, 1) := dk_97 (dk_at dksX41_plus_0 21 rfl rfl)
theorem dX41_plus_22 : decode cX41_plus 22 = .ok (.lstore_n 3, 1) := dk_66 (dk_at dksX41_plus_0 22 rfl rfl)
theorem dX41_plus_23 : decode cX41_plus 23 = .ok (.lload_n 3, 1) := dk_33 (dk_at dksX41_plus_0 23 rfl rfl)
theorem dX41_plus_24 : decode cX41_plus 24 = .ok (.sipush (-9999), 3) := dk_17 216 241 (dk_at dksX41_plus_1 0 rfl rfl)
theorem dX41_plus_27 : decode cX41_plus 27 = .ok (.invokestatic 22, 3) := dk_184 0 22 (dk_at dksX41_plus_1 3 rfl rfl)
theorem dX41_plus_30 : decode cX41_plus 30 = .ok (.i2l, 1) := dk_133 (dk_at dksX41_plus_1 6 rfl rfl)
theorem dX41_plus_31 : decode cX41_plus 31 = .ok (.lcmp, 1) := dk_148 (dk_at dksX41_plus_1 7 rfl rfl)
theorem dX41_plus_32 : decode cX41_plus 32 = .ok (.ifCond .lt 19, 3) := dk_155 0 19 (dk_at dksX41_plus_1 8 rfl rfl)
theorem dX41_plus_35 : decode cX41_plus 35 = .ok (.lload_n 3, 1) := dk_33 (dk_at dksX41_plus_1 11 rfl rfl)
theorem dX41_plus_36 : decode cX41_plus 36 = .ok (.sipush 10000, 3) := dk_17 39 16 (dk_at dksX41_plus_1 12 rfl rfl)
theorem dX41_plus_39 : decode cX41_plus 39 = .ok (.invokestatic 22, 3) := dk_184 0 22 (dk_at dksX41_plus_1 15 rfl rfl)
theorem dX41_plus_42 : decode cX41_plus 42 = .ok (.i2l, 1) := dk_133 (dk_at dksX41_plus_1 18 rfl rfl)
theorem dX41_plus_43 : decode cX41_plus 43 = .ok (.lcmp, 1) := dk_148 (dk_at dksX41_plus_1 19 rfl rfl)
theorem dX41_plus_44 : decode cX41_plus 44 = .ok (.ifCond .ge 7, 3) := dk_156 0 7 (dk_at dksX41_plus_1 20 rfl rfl)
theorem dX41_plus_47 : decode cX41_plus 47 = .ok (.iconst 1, 1) := dk_4 (dk_at dksX41_plus_1 23 rfl rfl)
theorem dX41_plus_48 : decode cX41_plus 48 = .ok (.goto 4, 3) := dk_167 0 4 (dk_at dksX41_plus_2 0 rfl rfl)
theorem dX41_plus_51 : decode cX41_plus 51 = .ok (.iconst 0, 1) := dk_3 (dk_at dksX41_plus_2 3 rfl rfl)
theorem dX41_plus_52 : decode cX41_plus 52 = .ok (.invokestatic 50, 3) := dk_184 0 50 (dk_at dksX41_plus_2 4 rfl rfl)
theorem dX41_plus_55 : decode cX41_plus 55 = .ok (.lload_n 3, 1) := dk_33 (dk_at dksX41_plus_2 7 rfl rfl)
theorem dX41_plus_56 : decode cX41_plus 56 = .ok (.l2i, 1) := dk_136 (dk_at dksX41_plus_2 8 rfl rfl)
theorem dX41_plus_57 : decode cX41_plus 57 = .ok (.ireturn, 1) := dk_172 (dk_at dksX41_plus_2 9 rfl rfl)
theorem dX41_plus_58 : decode cX41_plus 58 = .ok (.iload_n 1, 1) := dk_27 (dk_at dksX41_plus_2 10 rfl rfl)
theorem dX41_plus_59 : decode cX41_plus 59 = .ok (.iconst 2, 1) := dk_5 (dk_at dksX41_plus_2 11 rfl rfl)
theorem dX41_plus_60 : decode cX41_plus 60 = .ok (.if_icmp .ne 7, 3) := dk_160 0 7 (dk_at dksX41_plus_2 12 rfl rfl)
theorem dX41_plus_63 : decode cX41_plus 63 = .ok (.lconst 1, 1) := dk_10 (dk_at dksX41_plus_2 15 rfl rfl)
theorem dX41_plus_64 : decode cX41_plus 64 = .ok (.goto 6, 3) := dk_167 0 6 (dk_at dksX41_plus_2 16 rfl rfl)
theorem dX41_plus_67 : decode cX41_plus 67 = .ok (.ldc2_w 54, 3) := dk_20 0 54 (dk_at dksX41_plus_2 19 rfl rfl)
theorem dX41_plus_70 : decode cX41_plus 70 = .ok (.iload_n 2, 1) := dk_28 (dk_at dksX41_plus_2 22 rfl rfl)
theorem dX41_plus_71 : decode cX41_plus 71 = .ok (.i2l, 1) := dk_133 (dk_at dksX41_plus_2 23 rfl rfl)
theorem dX41_plus_72 : decode cX41_plus 72 = .ok (.lmul, 1) := dk_105 (dk_at dksX41_plus_3 0 rfl rfl)
theorem dX41_plus_73 : decode cX41_plus 73 = .ok (.ldc2_w 54, 3) := dk_20 0 54 (dk_at dksX41_plus_3 1 rfl rfl)
theorem dX41_plus_76 : decode cX41_plus 76 = .ok (.iload_n 0, 1) := dk_26 (dk_at dksX41_plus_3 4 rfl rfl)
theorem dX41_plus_77 : decode cX41_plus 77 = .ok (.invokestatic 29, 3) := dk_184 0 29 (dk_at dksX41_plus_3 5 rfl rfl)
theorem dX41_plus_80 : decode cX41_plus 80 = .ok (.i2l, 1) := dk_133 (dk_at dksX41_plus_3 8 rfl rfl)
theorem dX41_plus_81 : decode cX41_plus 81 = .ok (.lmul, 1) := dk_105 (dk_at dksX41_plus_3 9 rfl rfl)
theorem dX41_plus_82 : decode cX41_plus 82 = .ok (.ladd, 1) := dk_97 (dk_at dksX41_plus_3 10 rfl rfl)
theorem dX41_plus_83 : decode cX41_plus 83 = .ok (.iload_n 0, 1) := dk_26 (dk_at dksX41_plus_3 11 rfl rfl)
theorem dX41_plus_84 : decode cX41_plus 84 = .ok (.invokestatic 32, 3) := dk_184 0 32 (dk_at dksX41_plus_3 12 rfl rfl)
theorem dX41_plus_87 : decode cX41_plus 87 = .ok (.i2l, 1) := dk_133 (dk_at dksX41_plus_3 15 rfl rfl)
theorem dX41_plus_88 : decode cX41_plus 88 = .ok (.ladd, 1) := dk_97 (dk_at dksX41_plus_3 16 rfl rfl)
theorem dX41_plus_89 : decode cX41_plus 89 = .ok (.lconst 1, 1) := dk_10 (dk_at dksX41_plus_3 17 rfl rfl)
theorem dX41_plus_90 : decode cX41_plus 90 = .ok (.lsub, 1) := dk_101 (dk_at dksX41_plus_3 18 rfl rfl)
theorem dX41_plus_91 : decode cX41_plus 91 = .ok (.lstore_n 3, 1) := dk_66 (dk_at dksX41_plus_3 19 rfl rfl)
theorem dX41_plus_92 : decode cX41_plus 92 = .ok (.lload_n 3, 1) := dk_33 (dk_at dksX41_plus_3 20 rfl rfl)
theorem dX41_plus_93 : decode cX41_plus 93 = .ok (.ldc2_w 56, 3) := dk_20 0 56 (dk_at dksX41_plus_3 21 rfl rfl)
theorem dX41_plus_96 : decode cX41_plus 96 = .ok (.lcmp, 1) := dk_148 (dk_at dksX41_plus_4 0 rfl rfl)
theorem dX41_plus_97 : decode cX41_plus 97 = .ok (.ifCond .lt 15, 3) := dk_155 0 15 (dk_at dksX41_plus_4 1 rfl rfl)
theorem dX41_plus_100 : decode cX41_plus 100 = .ok (.lload_n 3, 1) := dk_33 (dk_at dksX41_plus_4 4 rfl rfl)
theorem dX41_plus_101 : decode cX41_plus 101 = .ok (.ldc2_w 58, 3) := dk_20 0 58 (dk_at dksX41_plus_4 5 rfl rfl)
theorem dX41_plus_104 : decode cX41_plus 104 = .ok (.lcmp, 1) := dk_148 (dk_at dksX41_plus_4 8 rfl rfl)
theorem dX41_plus_105 : decode cX41_plus 105 = .ok (.ifCond .ge 7, 3) := dk_156 0 7 (dk_at dksX41_plus_4 9 rfl rfl)
theorem dX41_plus_108 : decode cX41_plus 108 = .ok (.iconst 1, 1) := dk_4 (dk_at dksX41_plus_4 12 rfl rfl)
theorem dX41_plus_109 : decode cX41_plus 109 = .ok (.goto 4, 3) := dk_167 0 4 (dk_at dksX41_plus_4 13 rfl rfl)
theorem dX41_plus_112 : decode cX41_plus 112 = .ok (.iconst 0, 1) := dk_3 (dk_at dksX41_plus_4 16 rfl rfl)
theorem dX41_plus_113 : decode cX41_plus 113 = .ok (.invokestatic 50, 3) := dk_184 0 50 (dk_at dksX41_plus_4 17 rfl rfl)
theorem dX41_plus_116 : decode cX41_plus 116 = .ok (.lload_n 3, 1) := dk_33 (dk_at dksX41_plus_4 20 rfl rfl)
theorem dX41_plus_117 : decode cX41_plus 117 = .ok (.l2i, 1) := dk_136 (dk_at dksX41_plus_4 21 rfl rfl)
theorem dX41_plus_118 : decode cX41_plus 118 = .ok (.bipush 12, 2) := dk_16 12 (dk_at dksX41_plus_4 22 rfl rfl)
theorem dX41_plus_120 : decode cX41_plus 120 = .ok (.invokestatic 19, 3) := dk_184 0 19 (dk_at dksX41_plus_5 0 rfl rfl)
theorem dX41_plus_123 : decode cX41_plus 123 = .ok (.istore 5, 2) := dk_54 5 (dk_at dksX41_plus_5 3 rfl rfl)
theorem dX41_plus_125 : decode cX41_plus 125 = .ok (.lload_n 3, 1) := dk_33 (dk_at dksX41_plus_5 5 rfl rfl)
theorem dX41_plus_126 : decode cX41_plus 126 = .ok (.l2i, 1) := dk_136 (dk_at dksX41_plus_5 6 rfl rfl)
theorem dX41_plus_127 : decode cX41_plus 127 = .ok (.bipush 12, 2) := dk_16 12 (dk_at dksX41_plus_5 7 rfl rfl)
theorem dX41_plus_129 : decode cX41_plus 129 = .ok (.invokestatic 7, 3) := dk_184 0 7 (dk_at dksX41_plus_5 9 rfl rfl)
theorem dX41_plus_132 : decode cX41_plus 132 = .ok (.iconst 1, 1) := dk_4 (dk_at dksX41_plus_5 12 rfl rfl)
theorem dX41_plus_133 : decode cX41_plus 133 = .ok (.iadd, 1) := dk_96 (dk_at dksX41_plus_5 13 rfl rfl)
theorem dX41_plus_134 : decode cX41_plus 134 = .ok (.istore 6, 2) := dk_54 6 (dk_at dksX41_plus_5 14 rfl rfl)
theorem dX41_plus_136 : decode cX41_plus 136 = .ok (.iload_n 0, 1) := dk_26 (dk_at dksX41_plus_5 16 rfl rfl)
theorem dX41_plus_137 : decode cX41_plus 137 = .ok (.invokestatic 42, 3) := dk_184 0 42 (dk_at dksX41_plus_5 17 rfl rfl)
theorem dX41_plus_140 : decode cX41_plus 140 = .ok (.istore 7, 2) := dk_54 7 (dk_at dksX41_plus_5 20 rfl rfl)
theorem dX41_plus_142 : decode cX41_plus 142 = .ok (.iload 5, 2) := dk_21 5 (dk_at dksX41_plus_5 22 rfl rfl)
theorem dX41_plus_144 : decode cX41_plus 144 = .ok (.iload 6, 2) := dk_21 6 (dk_at dksX41_plus_6 0 rfl rfl)
theorem dX41_plus_146 : decode cX41_plus 146 = .ok (.iload 7, 2) := dk_21 7 (dk_at dksX41_plus_6 2 rfl rfl)
theorem dX41_plus_148 : decode cX41_plus 148 = .ok (.iload 5, 2) := dk_21 5 (dk_at dksX41_plus_6 4 rfl rfl)
theorem dX41_plus_150 : decode cX41_plus 150 = .ok (.iload 6, 2) := dk_21 6 (dk_at dksX41_plus_6 6 rfl rfl)
theorem dX41_plus_152 : decode cX41_plus 152 = .ok (.invokestatic 26, 3) := dk_184 0 26 (dk_at dksX41_plus_6 8 rfl rfl)
theorem dX41_plus_155 : decode cX41_plus 155 = .ok (.if_icmp .ge 8, 3) := dk_162 0 8 (dk_at dksX41_plus_6 11 rfl rfl)
theorem dX41_plus_158 : decode cX41_plus 158 = .ok (.iload 7, 2) := dk_21 7 (dk_at dksX41_plus_6 14 rfl rfl)
theorem dX41_plus_160 : decode cX41_plus 160 = .ok (.goto 10, 3) := dk_167 0 10 (dk_at dksX41_plus_6 16 rfl rfl)
theorem dX41_plus_163 : decode cX41_plus 163 = .ok (.iload 5, 2) := dk_21 5 (dk_at dksX41_plus_6 19 rfl rfl)
theorem dX41_plus_165 : decode cX41_plus 165 = .ok (.iload 6, 2) := dk_21 6 (dk_at dksX41_plus_6 21 rfl rfl)
theorem dX41_plus_167 : decode cX41_plus 167 = .ok (.invokestatic 26, 3) := dk_184 0 26 (dk_at dksX41_plus_7 0 rfl rfl)
theorem dX41_plus_170 : decode cX41_plus 170 = .ok (.invokestatic 35, 3) := dk_184 0 35 (dk_at dksX41_plus_7 3 rfl rfl)
theorem dX41_plus_173 : decode cX41_plus 173 = .ok (.ireturn, 1) := dk_172 (dk_at dksX41_plus_7 6 rfl rfl)
abbrev cX41_between : ByteArray := prog_6_method_15_code
def yX41_between : MethodName := ⟨RX41, "between", "(III)I"⟩
def dkwX41_between_3 : List UInt8 := [26, 28, 29, 184, 0, 63, 27, 164, 0, 9, 132, 3, 255, 167, 255, 239, 29, 172]
abbrev dktX41_between_3 : List UInt8 := dkwX41_between_3 ++ []
def dkwX41_between_2 : List UInt8 := [184, 0, 32, 96, 26, 184, 0, 32, 100, 62, 28, 6, 160, 0, 8, 29, 16, 12, 108, 62, 29, 158, 0, 19]
abbrev dktX41_between_2 : List UInt8 := dkwX41_between_2 ++ dktX41_between_3
def dkwX41_between_1 : List UInt8 := [154, 0, 7, 4, 167, 0, 5, 16, 7, 108, 172, 16, 12, 27, 184, 0, 29, 26, 184, 0, 29, 100, 104, 27]
abbrev dktX41_between_1 : List UInt8 := dkwX41_between_1 ++ dktX41_between_2
def dkwX41_between_0 : List UInt8 := [27, 26, 162, 0, 11, 27, 26, 28, 184, 0, 60, 116, 172, 28, 5, 162, 0, 18, 27, 26, 100, 28]
abbrev dktX41_between_0 : List UInt8 := dkwX41_between_0 ++ dktX41_between_1
theorem dksX41_between_0 : cX41_between.data.toList.drop 0 = dktX41_between_0 := by decide +kernel
theorem dksX41_between_1 : cX41_between.data.toList.drop 22 = dktX41_between_1 := dk_seg dksX41_between_0 22 rfl rfl
theorem dksX41_between_2 : cX41_between.data.toList.drop 46 = dktX41_between_2 := dk_seg dksX41_between_1 24 rfl rfl
theorem dksX41_between_3 : cX41_between.data.toList.drop 70 = dktX41_between_3 := dk_seg dksX41_between_2 24 rfl rfl
theorem dX41_between_0 : decode cX41_between 0 = .ok (.iload_n 1, 1) := dk_27 (dk_at dksX41_between_0 0 rfl rfl)
theorem dX41_between_1 : decode cX41_between 1 = .ok (.iload_n 0, 1) := dk_26 (dk_at dksX41_between_0 1 rfl rfl)
theorem dX41_between_2 : decode cX41_between 2 = .ok (.if_icmp .ge 11, 3) := dk_162 0 11 (dk_at dksX41_between_0 2 rfl rfl)
theorem dX41_between_5 : decode cX41_between 5 = .ok (.iload_n 1, 1) := dk_27 (dk_at dksX41_between_0 5 rfl rfl)
theorem dX41_between_6 : decode cX41_between 6 = .ok (.iload_n 0, 1) := dk_26 (dk_at dksX41_between_0 6 rfl rfl)
theorem dX41_between_7 : decode cX41_between 7 = .ok (.iload_n 2, 1) := dk_28 (dk_at dksX41_between_0 7 rfl rfl)
theorem dX41_between_8 : decode cX41_between 8 = .ok (.invokestatic 60, 3) := dk_184 0 60 (dk_at dksX41_between_0 8 rfl rfl)
theorem dX41_between_11 : decode cX41_between 11 = .ok (.ineg, 1) := dk_116 (dk_at dksX41_between_0 11 rfl rfl)
theorem dX41_between_12 : decode cX41_between 12 = .ok (.ireturn, 1) := dk_172 (dk_at dksX41_between_0 12 rfl rfl)
theorem dX41_between_13 : decode cX41_between 13 = .ok (.iload_n 2, 1) := dk_28 (dk_at dksX41_between_0 13 rfl rfl)
theorem dX41_between_14 : decode cX41_between 14 = .ok (.iconst 2, 1) := dk_5 (dk_at dksX41_between_0 14 rfl rfl)
theorem dX41_between_15 : decode cX41_between 15 = .ok (.if_icmp .ge 18, 3) := dk_162 0 18 (dk_at dksX41_between_0 15 rfl rfl)
theorem dX41_between_18 : decode cX41_between 18 = .ok (.iload_n 1, 1) := dk_27 (dk_at dksX41_between_0 18 rfl rfl)
theorem dX41_between_19 : decode cX41_between 19 = .ok (.iload_n 0, 1) := dk_26 (dk_at dksX41_between_0 19 rfl rfl)
theorem dX41_between_20 : decode cX41_between 20 = .ok (.isub, 1) := dk_100 (dk_at dksX41_between_0 20 rfl rfl)
theorem dX41_between_21 : decode cX41_between 21 = .ok (.iload_n 2, 1) := dk_28 (dk_at dksX41_between_0 21 rfl rfl)
theorem dX41_between_22 : decode cX41_between 22 = .ok (.ifCond .ne 7, 3) := dk_154 0 7 (dk_at dksX41_between_1 0 rfl rfl)
theorem dX41_between_25 : decode cX41_between 25 = .ok (.iconst 1, 1) := dk_4 (dk_at dksX41_between_1 3 rfl rfl)
theorem dX41_between_26 : decode cX41_between 26 = .ok (.goto 5, 3) := dk_167 0 5 (dk_at dksX41_between_1 4 rfl rfl)
theorem dX41_between_29 : decode cX41_between 29 = .ok (.bipush 7, 2) := dk_16 7 (dk_at dksX41_between_1 7 rfl rfl)
theorem dX41_between_31 : decode cX41_between 31 = .ok (.idiv, 1) := dk_108 (dk_at dksX41_between_1 9 rfl rfl)
theorem dX41_between_32 : decode cX41_between 32 = .ok (.ireturn, 1) := dk_172 (dk_at dksX41_between_1 10 rfl rfl)
theorem dX41_between_33 : decode cX41_between 33 = .ok (.bipush 12, 2) := dk_16 12 (dk_at dksX41_between_1 11 rfl rfl)
theorem dX41_between_35 : decode cX41_between 35 = .ok (.iload_n 1, 1) := dk_27 (dk_at dksX41_between_1 13 rfl rfl)
theorem dX41_between_36 : decode cX41_between 36 = .ok (.invokestatic 29, 3) := dk_184 0 29 (dk_at dksX41_between_1 14 rfl rfl)
theorem dX41_between_39 : decode cX41_between 39 = .ok (.iload_n 0, 1) := dk_26 (dk_at dksX41_between_1 17 rfl rfl)
theorem dX41_between_40 : decode cX41_between 40 = .ok (.invokestatic 29, 3) := dk_184 0 29 (dk_at dksX41_between_1 18 rfl rfl)
theorem dX41_between_43 : decode cX41_between 43 = .ok (.isub, 1) := dk_100 (dk_at dksX41_between_1 21 rfl rfl)
theorem dX41_between_44 : decode cX41_between 44 = .ok (.imul, 1) := dk_104 (dk_at dksX41_between_1 22 rfl rfl)
theorem dX41_between_45 : decode cX41_between 45 = .ok (.iload_n 1, 1) := dk_27 (dk_at dksX41_between_1 23 rfl rfl)
theorem dX41_between_46 : decode cX41_between 46 = .ok (.invokestatic 32, 3) := dk_184 0 32 (dk_at dksX41_between_2 0 rfl rfl)
theorem dX41_between_49 : decode cX41_between 49 = .ok (.iadd, 1) := dk_96 (dk_at dksX41_between_2 3 rfl rfl)
theorem dX41_between_50 : decode cX41_between 50 = .ok (.iload_n 0, 1) := dk_26 (dk_at dksX41_between_2 4 rfl rfl)
theorem dX41_between_51 : decode cX41_between 51 = .ok (.invokestatic 32, 3) := dk_184 0 32 (dk_at dksX41_between_2 5 rfl rfl)
theorem dX41_between_54 : decode cX41_between 54 = .ok (.isub, 1) := dk_100 (dk_at dksX41_between_2 8 rfl rfl)
theorem dX41_between_55 : decode cX41_between 55 = .ok (.istore_n 3, 1) := dk_62 (dk_at dksX41_between_2 9 rfl rfl)
theorem dX41_between_56 : decode cX41_between 56 = .ok (.iload_n 2, 1) := dk_28 (dk_at dksX41_between_2 10 rfl rfl)
theorem dX41_between_57 : decode cX41_between 57 = .ok (.iconst 3, 1) := dk_6 (dk_at dksX41_between_2 11 rfl rfl)
theorem dX41_between_58 : decode cX41_between 58 = .ok (.if_icmp .ne 8, 3) := dk_160 0 8 (dk_at dksX41_between_2 12 rfl rfl)
theorem dX41_between_61 : decode cX41_between 61 = .ok (.iload_n 3, 1) := dk_29 (dk_at dksX41_between_2 15 rfl rfl)
theorem dX41_between_62 : decode cX41_between 62 = .ok (.bipush 12, 2) := dk_16 12 (dk_at dksX41_between_2 16 rfl rfl)
theorem dX41_between_64 : decode cX41_between 64 = .ok (.idiv, 1) := dk_108 (dk_at dksX41_between_2 18 rfl rfl)
theorem dX41_between_65 : decode cX41_between 65 = .ok (.istore_n 3, 1) := dk_62 (dk_at dksX41_between_2 19 rfl rfl)
theorem dX41_between_66 : decode cX41_between 66 = .ok (.iload_n 3, 1) := dk_29 (dk_at dksX41_between_2 20 rfl rfl)
theorem dX41_between_67 : decode cX41_between 67 = .ok (.ifCond .le 19, 3) := dk_158 0 19 (dk_at dksX41_between_2 21 rfl rfl)
theorem dX41_between_70 : decode cX41_between 70 = .ok (.iload_n 0, 1) := dk_26 (dk_at dksX41_between_3 0 rfl rfl)
theorem dX41_between_71 : decode cX41_between 71 = .ok (.iload_n 2, 1) := dk_28 (dk_at dksX41_between_3 1 rfl rfl)
theorem dX41_between_72 : decode cX41_between 72 = .ok (.iload_n 3, 1) := dk_29 (dk_at dksX41_between_3 2 rfl rfl)
theorem dX41_between_73 : decode cX41_between 73 = .ok (.invokestatic 63, 3) := dk_184 0 63 (dk_at dksX41_between_3 3 rfl rfl)
theorem dX41_between_76 : decode cX41_between 76 = .ok (.iload_n 1, 1) := dk_27 (dk_at dksX41_between_3 6 rfl rfl)
theorem dX41_between_77 : decode cX41_between 77 = .ok (.if_icmp .le 9, 3) := dk_164 0 9 (dk_at dksX41_between_3 7 rfl rfl)
theorem dX41_between_80 : decode cX41_between 80 = .ok (.iinc 3 (-1), 3) := dk_132 3 255 (dk_at dksX41_between_3 10 rfl rfl)
theorem dX41_between_83 : decode cX41_between 83 = .ok (.goto (-17), 3) := dk_167 255 239 (dk_at dksX41_between_3 13 rfl rfl)
theorem dX41_between_86 : decode cX41_between 86 = .ok (.iload_n 3, 1) := dk_29 (dk_at dksX41_between_3 16 rfl rfl)
theorem dX41_between_87 : decode cX41_between 87 = .ok (.ireturn, 1) := dk_172 (dk_at dksX41_between_3 17 rfl rfl)
theorem q569 : (Jvm.Cond.initialized "LibraryDesk$Days") ∈ lw_all := lw_g (lw_at lw_m1 62 rfl) rfl
theorem q4392 : (Jvm.Cond.static ({ cls := "LibraryDesk$Days", name := "ofMonth", desc := "(II)I" } : Jvm.MethodName)) ∈ lw_all := lw_g (lw_at lw_m17 45 rfl) rfl
theorem q4393 : (Jvm.Cond.code ({ cls := "LibraryDesk$Days", name := "ofMonth", desc := "(II)I" } : Jvm.MethodName) prog_6_method_3_code (2 : Nat) (Option.some Jvm.ClassFile.FieldType.int)) ∈ lw_all := lw_g (lw_at lw_m17 46 rfl) rfl
theorem q4394 : (Jvm.Cond.methodLink "LibraryDesk$Days" (13 : Nat) ({ cls := "LibraryDesk$Days", name := "isLeap", desc := "(I)Z" } : Jvm.MethodName)) ∈ lw_all := lw_g (lw_at lw_m17 47 rfl) rfl
theorem q4395 : (Jvm.Cond.static ({ cls := "LibraryDesk$Days", name := "isLeap", desc := "(I)Z" } : Jvm.MethodName)) ∈ lw_all := lw_g (lw_at lw_m17 48 rfl) rfl
theorem q4396 : (Jvm.Cond.code ({ cls := "LibraryDesk$Days", name := "isLeap", desc := "(I)Z" } : Jvm.MethodName) prog_6_method_2_code (1 : Nat) (Option.some Jvm.ClassFile.FieldType.boolean)) ∈ lw_all := lw_g (lw_at lw_m17 49 rfl) rfl
theorem q4397 : (Jvm.Cond.methodLinkNest "LibraryDesk$Days" (7 : Nat) ({ cls := "LibraryDesk", name := "mod", desc := "(II)I" } : Jvm.MethodName) "LibraryDesk") ∈ lw_tbl := lw_at lw_m17 50 rfl
theorem q4399 : (Jvm.Cond.static ({ cls := "LibraryDesk$Days", name := "day", desc := "(III)I" } : Jvm.MethodName)) ∈ lw_all := lw_g (lw_at lw_m17 52 rfl) rfl
theorem q4400 : (Jvm.Cond.code ({ cls := "LibraryDesk$Days", name := "day", desc := "(III)I" } : Jvm.MethodName) prog_6_method_6_code (5 : Nat) (Option.some Jvm.ClassFile.FieldType.int)) ∈ lw_all := lw_g (lw_at lw_m17 53 rfl) rfl
theorem q4401 : (Jvm.Cond.methodLink "LibraryDesk$Days" (22 : Nat) ({ cls := "LibraryDesk$Days", name := "before", desc := "(I)I" } : Jvm.MethodName)) ∈ lw_all := lw_g (lw_at lw_m17 54 rfl) rfl
theorem q4402 : (Jvm.Cond.static ({ cls := "LibraryDesk$Days", name := "before", desc := "(I)I" } : Jvm.MethodName)) ∈ lw_all := lw_g (lw_at lw_m17 55 rfl) rfl
theorem q4403 : (Jvm.Cond.code ({ cls := "LibraryDesk$Days", name := "before", desc := "(I)I" } : Jvm.MethodName) prog_6_method_5_code (2 : Nat) (Option.some Jvm.ClassFile.FieldType.int)) ∈ lw_all := lw_g (lw_at lw_m17 56 rfl) rfl
theorem q4404 : (Jvm.Cond.methodLink "LibraryDesk$Days" (19 : Nat) ({ cls := "LibraryDesk$Days", name := "floo\x72", desc := "(II)I" } : Jvm.MethodName)) ∈ lw_all := lw_g (lw_at lw_m17 57 rfl) rfl
theorem q4405 : (Jvm.Cond.static ({ cls := "LibraryDesk$Days", name := "floo\x72", desc := "(II)I" } : Jvm.MethodName)) ∈ lw_all := lw_g (lw_at lw_m17 58 rfl) rfl
theorem q4406 : (Jvm.Cond.code ({ cls := "LibraryDesk$Days", name := "floo\x72", desc := "(II)I" } : Jvm.MethodName) prog_6_method_4_code (2 : Nat) (Option.some Jvm.ClassFile.FieldType.int)) ∈ lw_all := lw_g (lw_at lw_m17 59 rfl) rfl
theorem q4407 : (Jvm.Cond.methodLink "LibraryDesk$Days" (26 : Nat) ({ cls := "LibraryDesk$Days", name := "ofMonth", desc := "(II)I" } : Jvm.MethodName)) ∈ lw_all := lw_g (lw_at lw_m17 60 rfl) rfl
theorem q4416 : (Jvm.Cond.static ({ cls := "LibraryDesk$Days", name := "isDay", desc := "(I)Z" } : Jvm.MethodName)) ∈ lw_all := lw_g (lw_at lw_m17 69 rfl) rfl
theorem q4417 : (Jvm.Cond.code ({ cls := "LibraryDesk$Days", name := "isDay", desc := "(I)Z" } : Jvm.MethodName) prog_6_method_7_code (1 : Nat) (Option.some Jvm.ClassFile.FieldType.boolean)) ∈ lw_all := lw_g (lw_at lw_m17 70 rfl) rfl
theorem q4419 : (Jvm.Cond.static ({ cls := "LibraryDesk$Days", name := "part", desc := "(II)I" } : Jvm.MethodName)) ∈ lw_all := lw_g (lw_at lw_m17 72 rfl) rfl
theorem q4420 : (Jvm.Cond.code ({ cls := "LibraryDesk$Days", name := "part", desc := "(II)I" } : Jvm.MethodName) prog_6_method_13_code (3 : Nat) (Option.some Jvm.ClassFile.FieldType.int)) ∈ lw_all := lw_g (lw_at lw_m17 73 rfl) rfl
theorem q4421 : (Jvm.Cond.methodLink "LibraryDesk$Days" (29 : Nat) ({ cls := "LibraryDesk$Days", name := "yea\x72", desc := "(I)I" } : Jvm.MethodName)) ∈ lw_all := lw_g (lw_at lw_m17 74 rfl) rfl
theorem q4422 : (Jvm.Cond.static ({ cls := "LibraryDesk$Days", name := "yea\x72", desc := "(I)I" } : Jvm.MethodName)) ∈ lw_all := lw_g (lw_at lw_m17 75 rfl) rfl
theorem q4423 : (Jvm.Cond.code ({ cls := "LibraryDesk$Days", name := "yea\x72", desc := "(I)I" } : Jvm.MethodName) prog_6_method_8_code (2 : Nat) (Option.some Jvm.ClassFile.FieldType.int)) ∈ lw_all := lw_g (lw_at lw_m17 76 rfl) rfl
theorem q4424 : (Jvm.Cond.methodLink "LibraryDesk$Days" (32 : Nat) ({ cls := "LibraryDesk$Days", name := "month", desc := "(I)I" } : Jvm.MethodName)) ∈ lw_all := lw_g (lw_at lw_m17 77 rfl) rfl
theorem q4425 : (Jvm.Cond.static ({ cls := "LibraryDesk$Days", name := "month", desc := "(I)I" } : Jvm.MethodName)) ∈ lw_all := lw_g (lw_at lw_m17 78 rfl) rfl
theorem q4426 : (Jvm.Cond.code ({ cls := "LibraryDesk$Days", name := "month", desc := "(I)I" } : Jvm.MethodName) prog_6_method_9_code (4 : Nat) (Option.some Jvm.ClassFile.FieldType.int)) ∈ lw_all := lw_g (lw_at lw_m17 79 rfl) rfl
theorem q4427 : (Jvm.Cond.methodLink "LibraryDesk$Days" (42 : Nat) ({ cls := "LibraryDesk$Days", name := "dayOfMonth", desc := "(I)I" } : Jvm.MethodName)) ∈ lw_all := lw_g (lw_at lw_m17 80 rfl) rfl
theorem q4428 : (Jvm.Cond.static ({ cls := "LibraryDesk$Days", name := "dayOfMonth", desc := "(I)I" } : Jvm.MethodName)) ∈ lw_all := lw_g (lw_at lw_m17 81 rfl) rfl
theorem q4429 : (Jvm.Cond.code ({ cls := "LibraryDesk$Days", name := "dayOfMonth", desc := "(I)I" } : Jvm.MethodName) prog_6_method_10_code (1 : Nat) (Option.some Jvm.ClassFile.FieldType.int)) ∈ lw_all := lw_g (lw_at lw_m17 82 rfl) rfl
theorem q4430 : (Jvm.Cond.methodLink "LibraryDesk$Days" (35 : Nat) ({ cls := "LibraryDesk$Days", name := "day", desc := "(III)I" } : Jvm.MethodName)) ∈ lw_all := lw_g (lw_at lw_m17 83 rfl) rfl
theorem q4431 : (Jvm.Cond.methodLink "LibraryDesk$Days" (39 : Nat) ({ cls := "LibraryDesk$Days", name := "weekDay", desc := "(I)I" } : Jvm.MethodName)) ∈ lw_all := lw_g (lw_at lw_m17 84 rfl) rfl
theorem q4432 : (Jvm.Cond.static ({ cls := "LibraryDesk$Days", name := "weekDay", desc := "(I)I" } : Jvm.MethodName)) ∈ lw_all := lw_g (lw_at lw_m17 85 rfl) rfl
theorem q4433 : (Jvm.Cond.code ({ cls := "LibraryDesk$Days", name := "weekDay", desc := "(I)I" } : Jvm.MethodName) prog_6_method_11_code (1 : Nat) (Option.some Jvm.ClassFile.FieldType.int)) ∈ lw_all := lw_g (lw_at lw_m17 86 rfl) rfl
theorem q4434 : (Jvm.Cond.methodLink "LibraryDesk$Days" (45 : Nat) ({ cls := "LibraryDesk$Days", name := "thursday", desc := "(I)I" } : Jvm.MethodName)) ∈ lw_all := lw_g (lw_at lw_m17 87 rfl) rfl
theorem q4435 : (Jvm.Cond.static ({ cls := "LibraryDesk$Days", name := "thursday", desc := "(I)I" } : Jvm.MethodName)) ∈ lw_all := lw_g (lw_at lw_m17 88 rfl) rfl
theorem q4436 : (Jvm.Cond.code ({ cls := "LibraryDesk$Days", name := "thursday", desc := "(I)I" } : Jvm.MethodName) prog_6_method_12_code (1 : Nat) (Option.some Jvm.ClassFile.FieldType.int)) ∈ lw_all := lw_g (lw_at lw_m17 89 rfl) rfl
theorem q4445 : (Jvm.Cond.static ({ cls := "LibraryDesk$Days", name := "plus", desc := "(III)I" } : Jvm.MethodName)) ∈ lw_all := lw_g (lw_at lw_m17 98 rfl) rfl
theorem q4446 : (Jvm.Cond.code ({ cls := "LibraryDesk$Days", name := "plus", desc := "(III)I" } : Jvm.MethodName) prog_6_method_14_code (8 : Nat) (Option.some Jvm.ClassFile.FieldType.int)) ∈ lw_all := lw_g (lw_at lw_m17 99 rfl) rfl
theorem q4447 : (Jvm.Cond.constantLong "LibraryDesk$Days" (48 : Nat) (7 : Int64)) ∈ lw_all := lw_g (lw_at lw_m17 100 rfl) rfl
theorem q4448 : (Jvm.Cond.methodLinkNest "LibraryDesk$Days" (50 : Nat) ({ cls := "LibraryDesk", name := "sound", desc := "(Z)V" } : Jvm.MethodName) "LibraryDesk") ∈ lw_tbl := lw_at lw_m17 101 rfl
theorem q4449 : (Jvm.Cond.constantLong "LibraryDesk$Days" (54 : Nat) (12 : Int64)) ∈ lw_all := lw_g (lw_at lw_m17 102 rfl) rfl
theorem q4450 : (Jvm.Cond.constantLong "LibraryDesk$Days" (56 : Nat) (-119988 : Int64)) ∈ lw_all := lw_g (lw_at lw_m17 103 rfl) rfl
theorem q4451 : (Jvm.Cond.constantLong "LibraryDesk$Days" (58 : Nat) (120000 : Int64)) ∈ lw_all := lw_g (lw_at lw_m17 104 rfl) rfl
theorem q4460 : (Jvm.Cond.static ({ cls := "LibraryDesk$Days", name := "between", desc := "(III)I" } : Jvm.MethodName)) ∈ lw_all := lw_g (lw_at lw_m17 113 rfl) rfl
theorem q4461 : (Jvm.Cond.code ({ cls := "LibraryDesk$Days", name := "between", desc := "(III)I" } : Jvm.MethodName) prog_6_method_15_code (4 : Nat) (Option.some Jvm.ClassFile.FieldType.int)) ∈ lw_all := lw_g (lw_at lw_m17 114 rfl) rfl
theorem q4462 : (Jvm.Cond.methodLink "LibraryDesk$Days" (60 : Nat) ({ cls := "LibraryDesk$Days", name := "between", desc := "(III)I" } : Jvm.MethodName)) ∈ lw_all := lw_g (lw_at lw_m17 115 rfl) rfl
theorem q4463 : (Jvm.Cond.methodLink "LibraryDesk$Days" (63 : Nat) ({ cls := "LibraryDesk$Days", name := "plus", desc := "(III)I" } : Jvm.MethodName)) ∈ lw_all := lw_g (lw_at lw_m17 116 rfl) rfl

/-! java/lang/Throwable -/
set_option maxRecDepth 100000
def RJ0 : String := "java/lang/Throwable"
def TJ0 : u_T := fun k => match k with
  | 0 => ("java/lang/Throwable", "cause", "Ljava/lang/Throwable;", false)
  | 1 => ("java/lang/Throwable", "stackTrace", "[Ljava/lang/StackTraceElement;", false)
  | 2 => ("java/lang/Throwable", "suppressedExceptions", "Ljava/util/List;", false)
  | 3 => ("java/lang/Throwable", "detailMessage", "Ljava/lang/String;", false)
  | _ => ("java/lang/Throwable", "backtrace", "Ljava/lang/Object;", false)
def tyJ0 : Nat → FieldType := fun k => match k with
  | 0 => .object "java/lang/Throwable"
  | 1 => .array (.object "java/lang/StackTraceElement")
  | 2 => .object "java/util/List"
  | 3 => .object "java/lang/String"
  | _ => .object "java/lang/Object"
abbrev wsJ00 : List Cond := u_ws RJ0 TJ0 5
theorem nmJ0 : ∀ a, a < 5 → ∀ b, b < 5 → a ≠ b → (TJ0 a).2.1 ≠ (TJ0 b).2.1 := by decide +kernel
theorem tyJ0_ok : ∀ k, k < 5 → parseFieldDescriptor (TJ0 k).2.2.1 = some (tyJ0 k) := by decide +kernel
abbrev cJ0_init : ByteArray := prog_63_method_2_code
def yJ0_init : MethodName := ⟨RJ0, "<init>", "(Ljava/lang/String;)V"⟩
def dkwJ0_init_1 : List UInt8 := [182, 0, 27, 87, 42, 43, 181, 0, 31, 177]
abbrev dktJ0_init_1 : List UInt8 := dkwJ0_init_1 ++ []
def dkwJ0_init_0 : List UInt8 := [42, 183, 0, 1, 42, 42, 181, 0, 7, 42, 178, 0, 13, 181, 0, 17, 42, 178, 0, 20, 181, 0, 24, 42]
abbrev dktJ0_init_0 : List UInt8 := dkwJ0_init_0 ++ dktJ0_init_1
theorem dksJ0_init_0 : cJ0_init.data.toList.drop 0 = dktJ0_init_0 := by decide +kernel
theorem dksJ0_init_1 : cJ0_init.data.toList.drop 24 = dktJ0_init_1 := dk_seg dksJ0_init_0 24 rfl rfl
theorem dJ0_init_0 : decode cJ0_init 0 = .ok (.aload_n 0, 1) := dk_42 (dk_at dksJ0_init_0 0 rfl rfl)
theorem dJ0_init_1 : decode cJ0_init 1 = .ok (.invokespecial 1, 3) := dk_183 0 1 (dk_at dksJ0_init_0 1 rfl rfl)
theorem dJ0_init_4 : decode cJ0_init 4 = .ok (.aload_n 0, 1) := dk_42 (dk_at dksJ0_init_0 4 rfl rfl)
theorem dJ0_init_5 : decode cJ0_init 5 = .ok (.aload_n 0, 1) := dk_42 (dk_at dksJ0_init_0 5 rfl rfl)
theorem dJ0_init_6 : decode cJ0_init 6 = .ok (.putfield 7, 3) := dk_181 0 7 (dk_at dksJ0_init_0 6 rfl rfl)
theorem dJ0_init_9 : decode cJ0_init 9 = .ok (.aload_n 0, 1) := dk_42 (dk_at dksJ0_init_0 9 rfl rfl)
theorem dJ0_init_10 : decode cJ0_init 10 = .ok (.getstatic 13, 3) := dk_178 0 13 (dk_at dksJ0_init_0 10 rfl rfl)
theorem dJ0_init_13 : decode cJ0_init 13 = .ok (.putfield 17, 3) := dk_181 0 17 (dk_at dksJ0_init_0 13 rfl rfl)
theorem dJ0_init_16 : decode cJ0_init 16 = .ok (.aload_n 0, 1) := dk_42 (dk_at dksJ0_init_0 16 rfl rfl)
theorem dJ0_init_17 : decode cJ0_init 17 = .ok (.getstatic 20, 3) := dk_178 0 20 (dk_at dksJ0_init_0 17 rfl rfl)
theorem dJ0_init_20 : decode cJ0_init 20 = .ok (.putfield 24, 3) := dk_181 0 24 (dk_at dksJ0_init_0 20 rfl rfl)
theorem dJ0_init_23 : decode cJ0_init 23 = .ok (.aload_n 0, 1) := dk_42 (dk_at dksJ0_init_0 23 rfl rfl)
theorem dJ0_init_24 : decode cJ0_init 24 = .ok (.invokevirtual 27, 3) := dk_182 0 27 (dk_at dksJ0_init_1 0 rfl rfl)
theorem dJ0_init_27 : decode cJ0_init 27 = .ok (.pop, 1) := dk_87 (dk_at dksJ0_init_1 3 rfl rfl)
theorem dJ0_init_28 : decode cJ0_init 28 = .ok (.aload_n 0, 1) := dk_42 (dk_at dksJ0_init_1 4 rfl rfl)
theorem dJ0_init_29 : decode cJ0_init 29 = .ok (.aload_n 1, 1) := dk_43 (dk_at dksJ0_init_1 5 rfl rfl)
theorem dJ0_init_30 : decode cJ0_init 30 = .ok (.putfield 31, 3) := dk_181 0 31 (dk_at dksJ0_init_1 6 rfl rfl)
theorem dJ0_init_33 : decode cJ0_init 33 = .ok (.return_, 1) := dk_177 (dk_at dksJ0_init_1 9 rfl rfl)
abbrev cJ0_init_2 : ByteArray := prog_63_method_1_code
def yJ0_init_2 : MethodName := ⟨RJ0, "<init>", "()V"⟩
def dkwJ0_init_2_1 : List UInt8 := [182, 0, 27, 87, 177]
abbrev dktJ0_init_2_1 : List UInt8 := dkwJ0_init_2_1 ++ []
def dkwJ0_init_2_0 : List UInt8 := [42, 183, 0, 1, 42, 42, 181, 0, 7, 42, 178, 0, 13, 181, 0, 17, 42, 178, 0, 20, 181, 0, 24, 42]
abbrev dktJ0_init_2_0 : List UInt8 := dkwJ0_init_2_0 ++ dktJ0_init_2_1
theorem dksJ0_init_2_0 : cJ0_init_2.data.toList.drop 0 = dktJ0_init_2_0 := by decide +kernel
theorem dksJ0_init_2_1 : cJ0_init_2.data.toList.drop 24 = dktJ0_init_2_1 := dk_seg dksJ0_init_2_0 24 rfl rfl
theorem dJ0_init_2_0 : decode cJ0_init_2 0 = .ok (.aload_n 0, 1) := dk_42 (dk_at dksJ0_init_2_0 0 rfl rfl)
theorem dJ0_init_2_1 : decode cJ0_init_2 1 = .ok (.invokespecial 1, 3) := dk_183 0 1 (dk_at dksJ0_init_2_0 1 rfl rfl)
theorem dJ0_init_2_4 : decode cJ0_init_2 4 = .ok (.aload_n 0, 1) := dk_42 (dk_at dksJ0_init_2_0 4 rfl rfl)
theorem dJ0_init_2_5 : decode cJ0_init_2 5 = .ok (.aload_n 0, 1) := dk_42 (dk_at dksJ0_init_2_0 5 rfl rfl)
theorem dJ0_init_2_6 : decode cJ0_init_2 6 = .ok (.putfield 7, 3) := dk_181 0 7 (dk_at dksJ0_init_2_0 6 rfl rfl)
theorem dJ0_init_2_9 : decode cJ0_init_2 9 = .ok (.aload_n 0, 1) := dk_42 (dk_at dksJ0_init_2_0 9 rfl rfl)
theorem dJ0_init_2_10 : decode cJ0_init_2 10 = .ok (.getstatic 13, 3) := dk_178 0 13 (dk_at dksJ0_init_2_0 10 rfl rfl)
theorem dJ0_init_2_13 : decode cJ0_init_2 13 = .ok (.putfield 17, 3) := dk_181 0 17 (dk_at dksJ0_init_2_0 13 rfl rfl)
theorem dJ0_init_2_16 : decode cJ0_init_2 16 = .ok (.aload_n 0, 1) := dk_42 (dk_at dksJ0_init_2_0 16 rfl rfl)
theorem dJ0_init_2_17 : decode cJ0_init_2 17 = .ok (.getstatic 20, 3) := dk_178 0 20 (dk_at dksJ0_init_2_0 17 rfl rfl)
theorem dJ0_init_2_20 : decode cJ0_init_2 20 = .ok (.putfield 24, 3) := dk_181 0 24 (dk_at dksJ0_init_2_0 20 rfl rfl)
theorem dJ0_init_2_23 : decode cJ0_init_2 23 = .ok (.aload_n 0, 1) := dk_42 (dk_at dksJ0_init_2_0 23 rfl rfl)
theorem dJ0_init_2_24 : decode cJ0_init_2 24 = .ok (.invokevirtual 27, 3) := dk_182 0 27 (dk_at dksJ0_init_2_1 0 rfl rfl)
theorem dJ0_init_2_27 : decode cJ0_init_2 27 = .ok (.pop, 1) := dk_87 (dk_at dksJ0_init_2_1 3 rfl rfl)
theorem dJ0_init_2_28 : decode cJ0_init_2 28 = .ok (.return_, 1) := dk_177 (dk_at dksJ0_init_2_1 4 rfl rfl)
abbrev cJ0_init_3 : ByteArray := prog_63_method_5_code
def yJ0_init_3 : MethodName := ⟨RJ0, "<init>", "(Ljava/lang/String;Ljava/lang/Throwable;ZZ)V"⟩
def dkwJ0_init_3_2 : List UInt8 := [44, 181, 0, 7, 29, 154, 0, 8, 42, 1, 181, 0, 24, 177]
abbrev dktJ0_init_3_2 : List UInt8 := dkwJ0_init_3_2 ++ []
def dkwJ0_init_3_1 : List UInt8 := [21, 4, 153, 0, 11, 42, 182, 0, 27, 87, 167, 0, 8, 42, 1, 181, 0, 17, 42, 43, 181, 0, 31, 42]
abbrev dktJ0_init_3_1 : List UInt8 := dkwJ0_init_3_1 ++ dktJ0_init_3_2
def dkwJ0_init_3_0 : List UInt8 := [42, 183, 0, 1, 42, 42, 181, 0, 7, 42, 178, 0, 13, 181, 0, 17, 42, 178, 0, 20, 181, 0, 24]
abbrev dktJ0_init_3_0 : List UInt8 := dkwJ0_init_3_0 ++ dktJ0_init_3_1
theorem dksJ0_init_3_0 : cJ0_init_3.data.toList.drop 0 = dktJ0_init_3_0 := by decide +kernel
theorem dksJ0_init_3_1 : cJ0_init_3.data.toList.drop 23 = dktJ0_init_3_1 := dk_seg dksJ0_init_3_0 23 rfl rfl
theorem dksJ0_init_3_2 : cJ0_init_3.data.toList.drop 47 = dktJ0_init_3_2 := dk_seg dksJ0_init_3_1 24 rfl rfl
theorem dJ0_init_3_0 : decode cJ0_init_3 0 = .ok (.aload_n 0, 1) := dk_42 (dk_at dksJ0_init_3_0 0 rfl rfl)
theorem dJ0_init_3_1 : decode cJ0_init_3 1 = .ok (.invokespecial 1, 3) := dk_183 0 1 (dk_at dksJ0_init_3_0 1 rfl rfl)
theorem dJ0_init_3_4 : decode cJ0_init_3 4 = .ok (.aload_n 0, 1) := dk_42 (dk_at dksJ0_init_3_0 4 rfl rfl)
theorem dJ0_init_3_5 : decode cJ0_init_3 5 = .ok (.aload_n 0, 1) := dk_42 (dk_at dksJ0_init_3_0 5 rfl rfl)
theorem dJ0_init_3_6 : decode cJ0_init_3 6 = .ok (.putfield 7, 3) := dk_181 0 7 (dk_at dksJ0_init_3_0 6 rfl rfl)
theorem dJ0_init_3_9 : decode cJ0_init_3 9 = .ok (.aload_n 0, 1) := dk_42 (dk_at dksJ0_init_3_0 9 rfl rfl)
theorem dJ0_init_3_10 : decode cJ0_init_3 10 = .ok (.getstatic 13, 3) := dk_178 0 13 (dk_at dksJ0_init_3_0 10 rfl rfl)
theorem dJ0_init_3_13 : decode cJ0_init_3 13 = .ok (.putfield 17, 3) := dk_181 0 17 (dk_at dksJ0_init_3_0 13 rfl rfl)
theorem dJ0_init_3_16 : decode cJ0_init_3 16 = .ok (.aload_n 0, 1) := dk_42 (dk_at dksJ0_init_3_0 16 rfl rfl)
theorem dJ0_init_3_17 : decode cJ0_init_3 17 = .ok (.getstatic 20, 3) := dk_178 0 20 (dk_at dksJ0_init_3_0 17 rfl rfl)
theorem dJ0_init_3_20 : decode cJ0_init_3 20 = .ok (.putfield 24, 3) := dk_181 0 24 (dk_at dksJ0_init_3_0 20 rfl rfl)
theorem dJ0_init_3_23 : decode cJ0_init_3 23 = .ok (.iload 4, 2) := dk_21 4 (dk_at dksJ0_init_3_1 0 rfl rfl)
theorem dJ0_init_3_25 : decode cJ0_init_3 25 = .ok (.ifCond .eq 11, 3) := dk_153 0 11 (dk_at dksJ0_init_3_1 2 rfl rfl)
theorem dJ0_init_3_28 : decode cJ0_init_3 28 = .ok (.aload_n 0, 1) := dk_42 (dk_at dksJ0_init_3_1 5 rfl rfl)
theorem dJ0_init_3_29 : decode cJ0_init_3 29 = .ok (.invokevirtual 27, 3) := dk_182 0 27 (dk_at dksJ0_init_3_1 6 rfl rfl)
theorem dJ0_init_3_32 : decode cJ0_init_3 32 = .ok (.pop, 1) := dk_87 (dk_at dksJ0_init_3_1 9 rfl rfl)
theorem dJ0_init_3_33 : decode cJ0_init_3 33 = .ok (.goto 8, 3) := dk_167 0 8 (dk_at dksJ0_init_3_1 10 rfl rfl)
theorem dJ0_init_3_36 : decode cJ0_init_3 36 = .ok (.aload_n 0, 1) := dk_42 (dk_at dksJ0_init_3_1 13 rfl rfl)
theorem dJ0_init_3_37 : decode cJ0_init_3 37 = .ok (.aconst_null, 1) := dk_1 (dk_at dksJ0_init_3_1 14 rfl rfl)
theorem dJ0_init_3_38 : decode cJ0_init_3 38 = .ok (.putfield 17, 3) := dk_181 0 17 (dk_at dksJ0_init_3_1 15 rfl rfl)
theorem dJ0_init_3_41 : decode cJ0_init_3 41 = .ok (.aload_n 0, 1) := dk_42 (dk_at dksJ0_init_3_1 18 rfl rfl)
theorem dJ0_init_3_42 : decode cJ0_init_3 42 = .ok (.aload_n 1, 1) := dk_43 (dk_at dksJ0_init_3_1 19 rfl rfl)
theorem dJ0_init_3_43 : decode cJ0_init_3 43 = .ok (.putfield 31, 3) := dk_181 0 31 (dk_at dksJ0_init_3_1 20 rfl rfl)
theorem dJ0_init_3_46 : decode cJ0_init_3 46 = .ok (.aload_n 0, 1) := dk_42 (dk_at dksJ0_init_3_1 23 rfl rfl)
theorem dJ0_init_3_47 : decode cJ0_init_3 47 = .ok (.aload_n 2, 1) := dk_44 (dk_at dksJ0_init_3_2 0 rfl rfl)
theorem dJ0_init_3_48 : decode cJ0_init_3 48 = .ok (.putfield 7, 3) := dk_181 0 7 (dk_at dksJ0_init_3_2 1 rfl rfl)
theorem dJ0_init_3_51 : decode cJ0_init_3 51 = .ok (.iload_n 3, 1) := dk_29 (dk_at dksJ0_init_3_2 4 rfl rfl)
theorem dJ0_init_3_52 : decode cJ0_init_3 52 = .ok (.ifCond .ne 8, 3) := dk_154 0 8 (dk_at dksJ0_init_3_2 5 rfl rfl)
theorem dJ0_init_3_55 : decode cJ0_init_3 55 = .ok (.aload_n 0, 1) := dk_42 (dk_at dksJ0_init_3_2 8 rfl rfl)
theorem dJ0_init_3_56 : decode cJ0_init_3 56 = .ok (.aconst_null, 1) := dk_1 (dk_at dksJ0_init_3_2 9 rfl rfl)
theorem dJ0_init_3_57 : decode cJ0_init_3 57 = .ok (.putfield 24, 3) := dk_181 0 24 (dk_at dksJ0_init_3_2 10 rfl rfl)
theorem dJ0_init_3_60 : decode cJ0_init_3 60 = .ok (.return_, 1) := dk_177 (dk_at dksJ0_init_3_2 13 rfl rfl)
theorem q522 : (Jvm.Cond.initialized "java/lang/Throwable") ∈ lw_all := lw_g (lw_at lw_m1 15 rfl) rfl
theorem q1171 : (Jvm.Cond.instanceMethod ({ cls := "java/lang/Throwable", name := "<init>", desc := "(Ljava/lang/String;)V" } : Jvm.MethodName)) ∈ lw_all := lw_g (lw_at lw_m3 184 rfl) rfl
theorem q1172 : (Jvm.Cond.code ({ cls := "java/lang/Throwable", name := "<init>", desc := "(Ljava/lang/String;)V" } : Jvm.MethodName) prog_63_method_2_code (2 : Nat) (Option.none : Option Jvm.ClassFile.FieldType)) ∈ lw_all := lw_g (lw_at lw_m3 185 rfl) rfl
theorem q1173 : (Jvm.Cond.methodLink "java/lang/Throwable" (1 : Nat) ({ cls := "java/lang/Object", name := "<init>", desc := "()V" } : Jvm.MethodName)) ∈ lw_all := lw_g (lw_at lw_m3 186 rfl) rfl
theorem q1174 : (Jvm.Cond.fieldLink "java/lang/Throwable" (13 : Nat) "java/lang/Throwable" "UNASSIGNED_STACK" "[Ljava/lang/StackTraceElement;") ∈ lw_all := lw_g (lw_at lw_m3 187 rfl) rfl
theorem q1175 : (Jvm.Cond.laysStatic "java/lang/Throwable" "UNASSIGNED_STACK" "[Ljava/lang/StackTraceElement;") ∈ lw_tbl := lw_at lw_m3 188 rfl
theorem q1176 : (Jvm.Cond.fieldLink "java/lang/Throwable" (20 : Nat) "java/lang/Throwable" "SUPPRESSED_SENTINEL" "Ljava/util/List;") ∈ lw_all := lw_g (lw_at lw_m3 189 rfl) rfl
theorem q1177 : (Jvm.Cond.laysStatic "java/lang/Throwable" "SUPPRESSED_SENTINEL" "Ljava/util/List;") ∈ lw_tbl := lw_at lw_m3 190 rfl
theorem q1178 : (Jvm.Cond.methodLink "java/lang/Throwable" (27 : Nat) ({ cls := "java/lang/Throwable", name := "fillInStackTrace", desc := "()Ljava/lang/Throwable;" } : Jvm.MethodName)) ∈ lw_all := lw_g (lw_at lw_m3 191 rfl) rfl
theorem q1179 : (Jvm.Cond.instanceMethod ({ cls := "java/lang/Throwable", name := "fillInStackTrace", desc := "()Ljava/lang/Throwable;" } : Jvm.MethodName)) ∈ lw_all := lw_g (lw_at lw_m3 192 rfl) rfl
theorem q1180 : (Jvm.Cond.sameMethod "java/lang/Throwable" "java/lang/Throwable" "fillInStackTrace" "()Ljava/lang/Throwable;") ∈ lw_all := lw_g (lw_at lw_m3 193 rfl) rfl
theorem q1193 : (Jvm.Cond.codeSync ({ cls := "java/lang/Throwable", name := "fillInStackTrace", desc := "()Ljava/lang/Throwable;" } : Jvm.MethodName) prog_63_method_18_code (1 : Nat) (Option.some (Jvm.ClassFile.FieldType.object "java/lang/Throwable"))) ∈ lw_all := lw_g (lw_at lw_m3 206 rfl) rfl
theorem q1194 : (Jvm.Cond.methodLink "java/lang/Throwable" (202 : Nat) ({ cls := "java/lang/Throwable", name := "fillInStackTrace", desc := "(I)Ljava/lang/Throwable;" } : Jvm.MethodName)) ∈ lw_all := lw_g (lw_at lw_m3 207 rfl) rfl
theorem q1195 : (Jvm.Cond.privateMethod ({ cls := "java/lang/Throwable", name := "fillInStackTrace", desc := "(I)Ljava/lang/Throwable;" } : Jvm.MethodName)) ∈ lw_tbl := lw_at lw_m3 208 rfl
theorem q1196 : (Jvm.Cond.instanceMethod ({ cls := "java/lang/Throwable", name := "fillInStackTrace", desc := "(I)Ljava/lang/Throwable;" } : Jvm.MethodName)) ∈ lw_all := lw_g (lw_at lw_m3 209 rfl) rfl
theorem q1197 : (Jvm.Cond.instantiable "java/lang/Throwable" (6 : Nat)) ∈ lw_all := lw_g (lw_at lw_m3 210 rfl) rfl
theorem q1198 : (Jvm.Cond.native ({ cls := "java/lang/Throwable", name := "fillInStackTrace", desc := "(I)Ljava/lang/Throwable;" } : Jvm.MethodName)) ∈ lw_all := lw_g (lw_at lw_m3 211 rfl) rfl
theorem q1199 : (Jvm.Cond.fieldLink "java/lang/Throwable" (198 : Nat) "java/lang/Throwable" "backtrace" "Ljava/lang/Object;") ∈ lw_all := lw_g (lw_at lw_m3 212 rfl) rfl
theorem q1200 : (Jvm.Cond.fieldLink "java/lang/Throwable" (31 : Nat) "java/lang/Throwable" "detailMessage" "Ljava/lang/String;") ∈ lw_all := lw_g (lw_at lw_m3 213 rfl) rfl
theorem q1201 : (Jvm.Cond.fieldLink "java/lang/Throwable" (7 : Nat) "java/lang/Throwable" "cause" "Ljava/lang/Throwable;") ∈ lw_all := lw_g (lw_at lw_m3 214 rfl) rfl
theorem q1202 : (Jvm.Cond.fieldLink "java/lang/Throwable" (17 : Nat) "java/lang/Throwable" "stackTrace" "[Ljava/lang/StackTraceElement;") ∈ lw_all := lw_g (lw_at lw_m3 215 rfl) rfl
theorem q1203 : (Jvm.Cond.fieldLink "java/lang/Throwable" (24 : Nat) "java/lang/Throwable" "suppressedExceptions" "Ljava/util/List;") ∈ lw_all := lw_g (lw_at lw_m3 216 rfl) rfl
theorem q1205 : (Jvm.Cond.soleField "java/lang/Throwable" "backtrace") ∈ lw_all := lw_g (lw_at lw_m3 218 rfl) rfl
theorem q1207 : (Jvm.Cond.soleField "java/lang/Throwable" "detailMessage") ∈ lw_all := lw_g (lw_at lw_m3 220 rfl) rfl
theorem q1209 : (Jvm.Cond.soleField "java/lang/Throwable" "cause") ∈ lw_all := lw_g (lw_at lw_m3 222 rfl) rfl
theorem q1211 : (Jvm.Cond.soleField "java/lang/Throwable" "stackTrace") ∈ lw_all := lw_g (lw_at lw_m3 224 rfl) rfl
theorem q1213 : (Jvm.Cond.soleField "java/lang/Throwable" "depth") ∈ lw_all := lw_g (lw_at lw_m3 226 rfl) rfl
theorem q1215 : (Jvm.Cond.soleField "java/lang/Throwable" "suppressedExceptions") ∈ lw_all := lw_g (lw_at lw_m3 228 rfl) rfl
theorem q1224 : (Jvm.Cond.declares ({ cls := "java/lang/Throwable", name := "<init>", desc := "()V" } : Jvm.MethodName)) ∈ lw_tbl := lw_at lw_m3 237 rfl
theorem q1225 : (Jvm.Cond.declares ({ cls := "java/lang/Throwable", name := "<init>", desc := "(Ljava/lang/String;)V" } : Jvm.MethodName)) ∈ lw_tbl := lw_at lw_m3 238 rfl
theorem q1227 : (Jvm.Cond.lays "java/lang/Throwable" "java/lang/Throwable" "cause" "Ljava/lang/Throwable;") ∈ lw_all := lw_g (lw_at lw_m4 0 rfl) rfl
theorem q1228 : (Jvm.Cond.lays "java/lang/Throwable" "java/lang/Throwable" "stackTrace" "[Ljava/lang/StackTraceElement;") ∈ lw_all := lw_g (lw_at lw_m4 1 rfl) rfl
theorem q1229 : (Jvm.Cond.lays "java/lang/Throwable" "java/lang/Throwable" "suppressedExceptions" "Ljava/util/List;") ∈ lw_all := lw_g (lw_at lw_m4 2 rfl) rfl
theorem q1230 : (Jvm.Cond.lays "java/lang/Throwable" "java/lang/Throwable" "detailMessage" "Ljava/lang/String;") ∈ lw_all := lw_g (lw_at lw_m4 3 rfl) rfl
theorem q1231 : (Jvm.Cond.lays "java/lang/Throwable" "java/lang/Throwable" "backtrace" "Ljava/lang/Object;") ∈ lw_all := lw_g (lw_at lw_m4 4 rfl) rfl
theorem q1232 : (Jvm.Cond.fieldLink "java/lang/Throwable" (198 : Nat) "java/lang/Throwable" "backtrace" "Ljava/lang/Object;") ∈ lw_all := lw_g (lw_at lw_m4 5 rfl) rfl
theorem q1233 : (Jvm.Cond.superclass "java/lang/Throwable" "java/lang/Object") ∈ lw_all := lw_g (lw_at lw_m4 6 rfl) rfl
theorem q1234 : (Jvm.Cond.instanceMethod ({ cls := "java/lang/Throwable", name := "<init>", desc := "()V" } : Jvm.MethodName)) ∈ lw_all := lw_g (lw_at lw_m4 7 rfl) rfl
theorem q1235 : (Jvm.Cond.code ({ cls := "java/lang/Throwable", name := "<init>", desc := "()V" } : Jvm.MethodName) prog_63_method_1_code (1 : Nat) (Option.none : Option Jvm.ClassFile.FieldType)) ∈ lw_all := lw_g (lw_at lw_m4 8 rfl) rfl
theorem q3118 : (Jvm.Cond.instanceMethod ({ cls := "java/lang/Throwable", name := "<init>", desc := "(Ljava/lang/String;Ljava/lang/Throwable;ZZ)V" } : Jvm.MethodName)) ∈ lw_all := lw_g (lw_at lw_m11 211 rfl) rfl
theorem q3119 : (Jvm.Cond.code ({ cls := "java/lang/Throwable", name := "<init>", desc := "(Ljava/lang/String;Ljava/lang/Throwable;ZZ)V" } : Jvm.MethodName) prog_63_method_5_code (5 : Nat) (Option.none : Option Jvm.ClassFile.FieldType)) ∈ lw_all := lw_g (lw_at lw_m11 212 rfl) rfl
theorem q6080 : (Jvm.Cond.sameMethod "java/lang/Throwable" "java/lang/Throwable" "fillInStackTrace" "(I)Ljava/lang/Throwable;") ∈ lw_all := lw_g (lw_at lw_m24 53 rfl) rfl
theorem q6151 : (Jvm.Cond.castable "java/lang/Throwable" "java/lang/Object") ∈ lw_tbl := lw_at lw_m24 124 rfl
theorem in_J0 : ∀ w ∈ wsJ00, w ∈ lw_all := lw_in wsJ00 [1227, 1228, 1229, 1230, 1231] (by decide +kernel) (by decide +kernel)

/-! java/lang/Exception -/
set_option maxRecDepth 100000
def RJ1 : String := "java/lang/Exception"
abbrev cJ1_init : ByteArray := prog_50_method_2_code
def yJ1_init : MethodName := ⟨RJ1, "<init>", "(Ljava/lang/String;)V"⟩
def dkwJ1_init_0 : List UInt8 := [42, 43, 183, 0, 7, 177]
abbrev dktJ1_init_0 : List UInt8 := dkwJ1_init_0 ++ []
theorem dksJ1_init_0 : cJ1_init.data.toList.drop 0 = dktJ1_init_0 := by decide +kernel
theorem dJ1_init_0 : decode cJ1_init 0 = .ok (.aload_n 0, 1) := dk_42 (dk_at dksJ1_init_0 0 rfl rfl)
theorem dJ1_init_1 : decode cJ1_init 1 = .ok (.aload_n 1, 1) := dk_43 (dk_at dksJ1_init_0 1 rfl rfl)
theorem dJ1_init_2 : decode cJ1_init 2 = .ok (.invokespecial 7, 3) := dk_183 0 7 (dk_at dksJ1_init_0 2 rfl rfl)
theorem dJ1_init_5 : decode cJ1_init 5 = .ok (.return_, 1) := dk_177 (dk_at dksJ1_init_0 5 rfl rfl)
abbrev cJ1_init_2 : ByteArray := prog_50_method_1_code
def yJ1_init_2 : MethodName := ⟨RJ1, "<init>", "()V"⟩
theorem dJ1_init_2_0 : decode cJ1_init_2 0 = .ok (.aload_n 0, 1) := by decide +kernel
theorem dJ1_init_2_1 : decode cJ1_init_2 1 = .ok (.invokespecial 1, 3) := by decide +kernel
theorem dJ1_init_2_4 : decode cJ1_init_2 4 = .ok (.return_, 1) := by decide +kernel
abbrev cJ1_init_3 : ByteArray := prog_50_method_5_code
def yJ1_init_3 : MethodName := ⟨RJ1, "<init>", "(Ljava/lang/String;Ljava/lang/Throwable;ZZ)V"⟩
def dkwJ1_init_3_0 : List UInt8 := [42, 43, 44, 29, 21, 4, 183, 0, 16, 177]
abbrev dktJ1_init_3_0 : List UInt8 := dkwJ1_init_3_0 ++ []
theorem dksJ1_init_3_0 : cJ1_init_3.data.toList.drop 0 = dktJ1_init_3_0 := by decide +kernel
theorem dJ1_init_3_0 : decode cJ1_init_3 0 = .ok (.aload_n 0, 1) := dk_42 (dk_at dksJ1_init_3_0 0 rfl rfl)
theorem dJ1_init_3_1 : decode cJ1_init_3 1 = .ok (.aload_n 1, 1) := dk_43 (dk_at dksJ1_init_3_0 1 rfl rfl)
theorem dJ1_init_3_2 : decode cJ1_init_3 2 = .ok (.aload_n 2, 1) := dk_44 (dk_at dksJ1_init_3_0 2 rfl rfl)
theorem dJ1_init_3_3 : decode cJ1_init_3 3 = .ok (.iload_n 3, 1) := dk_29 (dk_at dksJ1_init_3_0 3 rfl rfl)
theorem dJ1_init_3_4 : decode cJ1_init_3 4 = .ok (.iload 4, 2) := dk_21 4 (dk_at dksJ1_init_3_0 4 rfl rfl)
theorem dJ1_init_3_6 : decode cJ1_init_3 6 = .ok (.invokespecial 16, 3) := dk_183 0 16 (dk_at dksJ1_init_3_0 6 rfl rfl)
theorem dJ1_init_3_9 : decode cJ1_init_3 9 = .ok (.return_, 1) := dk_177 (dk_at dksJ1_init_3_0 9 rfl rfl)
theorem q523 : (Jvm.Cond.initialized "java/lang/Exception") ∈ lw_all := lw_g (lw_at lw_m1 16 rfl) rfl
theorem q1168 : (Jvm.Cond.instanceMethod ({ cls := "java/lang/Exception", name := "<init>", desc := "(Ljava/lang/String;)V" } : Jvm.MethodName)) ∈ lw_all := lw_g (lw_at lw_m3 181 rfl) rfl
theorem q1169 : (Jvm.Cond.code ({ cls := "java/lang/Exception", name := "<init>", desc := "(Ljava/lang/String;)V" } : Jvm.MethodName) prog_50_method_2_code (2 : Nat) (Option.none : Option Jvm.ClassFile.FieldType)) ∈ lw_all := lw_g (lw_at lw_m3 182 rfl) rfl
theorem q1170 : (Jvm.Cond.methodLink "java/lang/Exception" (7 : Nat) ({ cls := "java/lang/Throwable", name := "<init>", desc := "(Ljava/lang/String;)V" } : Jvm.MethodName)) ∈ lw_all := lw_g (lw_at lw_m3 183 rfl) rfl
theorem q1222 : (Jvm.Cond.declares ({ cls := "java/lang/Exception", name := "<init>", desc := "()V" } : Jvm.MethodName)) ∈ lw_tbl := lw_at lw_m3 235 rfl
theorem q1223 : (Jvm.Cond.declares ({ cls := "java/lang/Exception", name := "<init>", desc := "(Ljava/lang/String;)V" } : Jvm.MethodName)) ∈ lw_tbl := lw_at lw_m3 236 rfl
theorem q1264 : (Jvm.Cond.instanceMethod ({ cls := "java/lang/Exception", name := "<init>", desc := "()V" } : Jvm.MethodName)) ∈ lw_all := lw_g (lw_at lw_m4 37 rfl) rfl
theorem q1265 : (Jvm.Cond.code ({ cls := "java/lang/Exception", name := "<init>", desc := "()V" } : Jvm.MethodName) prog_50_method_1_code (1 : Nat) (Option.none : Option Jvm.ClassFile.FieldType)) ∈ lw_all := lw_g (lw_at lw_m4 38 rfl) rfl
theorem q1266 : (Jvm.Cond.methodLink "java/lang/Exception" (1 : Nat) ({ cls := "java/lang/Throwable", name := "<init>", desc := "()V" } : Jvm.MethodName)) ∈ lw_all := lw_g (lw_at lw_m4 39 rfl) rfl
theorem q3115 : (Jvm.Cond.instanceMethod ({ cls := "java/lang/Exception", name := "<init>", desc := "(Ljava/lang/String;Ljava/lang/Throwable;ZZ)V" } : Jvm.MethodName)) ∈ lw_all := lw_g (lw_at lw_m11 208 rfl) rfl
theorem q3116 : (Jvm.Cond.code ({ cls := "java/lang/Exception", name := "<init>", desc := "(Ljava/lang/String;Ljava/lang/Throwable;ZZ)V" } : Jvm.MethodName) prog_50_method_5_code (5 : Nat) (Option.none : Option Jvm.ClassFile.FieldType)) ∈ lw_all := lw_g (lw_at lw_m11 209 rfl) rfl
theorem q3117 : (Jvm.Cond.methodLink "java/lang/Exception" (16 : Nat) ({ cls := "java/lang/Throwable", name := "<init>", desc := "(Ljava/lang/String;Ljava/lang/Throwable;ZZ)V" } : Jvm.MethodName)) ∈ lw_all := lw_g (lw_at lw_m11 210 rfl) rfl

/-! java/lang/RuntimeException -/
set_option maxRecDepth 100000
def RJ2 : String := "java/lang/RuntimeException"
abbrev cJ2_init : ByteArray := prog_58_method_2_code
def yJ2_init : MethodName := ⟨RJ2, "<init>", "(Ljava/lang/String;)V"⟩
def dkwJ2_init_0 : List UInt8 := [42, 43, 183, 0, 7, 177]
abbrev dktJ2_init_0 : List UInt8 := dkwJ2_init_0 ++ []
theorem dksJ2_init_0 : cJ2_init.data.toList.drop 0 = dktJ2_init_0 := by decide +kernel
theorem dJ2_init_0 : decode cJ2_init 0 = .ok (.aload_n 0, 1) := dk_42 (dk_at dksJ2_init_0 0 rfl rfl)
theorem dJ2_init_1 : decode cJ2_init 1 = .ok (.aload_n 1, 1) := dk_43 (dk_at dksJ2_init_0 1 rfl rfl)
theorem dJ2_init_2 : decode cJ2_init 2 = .ok (.invokespecial 7, 3) := dk_183 0 7 (dk_at dksJ2_init_0 2 rfl rfl)
theorem dJ2_init_5 : decode cJ2_init 5 = .ok (.return_, 1) := dk_177 (dk_at dksJ2_init_0 5 rfl rfl)
abbrev cJ2_init_2 : ByteArray := prog_58_method_1_code
def yJ2_init_2 : MethodName := ⟨RJ2, "<init>", "()V"⟩
theorem dJ2_init_2_0 : decode cJ2_init_2 0 = .ok (.aload_n 0, 1) := by decide +kernel
theorem dJ2_init_2_1 : decode cJ2_init_2 1 = .ok (.invokespecial 1, 3) := by decide +kernel
theorem dJ2_init_2_4 : decode cJ2_init_2 4 = .ok (.return_, 1) := by decide +kernel
abbrev cJ2_init_3 : ByteArray := prog_58_method_5_code
def yJ2_init_3 : MethodName := ⟨RJ2, "<init>", "(Ljava/lang/String;Ljava/lang/Throwable;ZZ)V"⟩
def dkwJ2_init_3_0 : List UInt8 := [42, 43, 44, 29, 21, 4, 183, 0, 16, 177]
abbrev dktJ2_init_3_0 : List UInt8 := dkwJ2_init_3_0 ++ []
theorem dksJ2_init_3_0 : cJ2_init_3.data.toList.drop 0 = dktJ2_init_3_0 := by decide +kernel
theorem dJ2_init_3_0 : decode cJ2_init_3 0 = .ok (.aload_n 0, 1) := dk_42 (dk_at dksJ2_init_3_0 0 rfl rfl)
theorem dJ2_init_3_1 : decode cJ2_init_3 1 = .ok (.aload_n 1, 1) := dk_43 (dk_at dksJ2_init_3_0 1 rfl rfl)
theorem dJ2_init_3_2 : decode cJ2_init_3 2 = .ok (.aload_n 2, 1) := dk_44 (dk_at dksJ2_init_3_0 2 rfl rfl)
theorem dJ2_init_3_3 : decode cJ2_init_3 3 = .ok (.iload_n 3, 1) := dk_29 (dk_at dksJ2_init_3_0 3 rfl rfl)
theorem dJ2_init_3_4 : decode cJ2_init_3 4 = .ok (.iload 4, 2) := dk_21 4 (dk_at dksJ2_init_3_0 4 rfl rfl)
theorem dJ2_init_3_6 : decode cJ2_init_3 6 = .ok (.invokespecial 16, 3) := dk_183 0 16 (dk_at dksJ2_init_3_0 6 rfl rfl)
theorem dJ2_init_3_9 : decode cJ2_init_3 9 = .ok (.return_, 1) := dk_177 (dk_at dksJ2_init_3_0 9 rfl rfl)
theorem q524 : (Jvm.Cond.initialized "java/lang/RuntimeException") ∈ lw_all := lw_g (lw_at lw_m1 17 rfl) rfl
theorem q1165 : (Jvm.Cond.instanceMethod ({ cls := "java/lang/RuntimeException", name := "<init>", desc := "(Ljava/lang/String;)V" } : Jvm.MethodName)) ∈ lw_all := lw_g (lw_at lw_m3 178 rfl) rfl
theorem q1166 : (Jvm.Cond.code ({ cls := "java/lang/RuntimeException", name := "<init>", desc := "(Ljava/lang/String;)V" } : Jvm.MethodName) prog_58_method_2_code (2 : Nat) (Option.none : Option Jvm.ClassFile.FieldType)) ∈ lw_all := lw_g (lw_at lw_m3 179 rfl) rfl
theorem q1167 : (Jvm.Cond.methodLink "java/lang/RuntimeException" (7 : Nat) ({ cls := "java/lang/Exception", name := "<init>", desc := "(Ljava/lang/String;)V" } : Jvm.MethodName)) ∈ lw_all := lw_g (lw_at lw_m3 180 rfl) rfl
theorem q1220 : (Jvm.Cond.declares ({ cls := "java/lang/RuntimeException", name := "<init>", desc := "()V" } : Jvm.MethodName)) ∈ lw_tbl := lw_at lw_m3 233 rfl
theorem q1221 : (Jvm.Cond.declares ({ cls := "java/lang/RuntimeException", name := "<init>", desc := "(Ljava/lang/String;)V" } : Jvm.MethodName)) ∈ lw_tbl := lw_at lw_m3 234 rfl
theorem q1261 : (Jvm.Cond.instanceMethod ({ cls := "java/lang/RuntimeException", name := "<init>", desc := "()V" } : Jvm.MethodName)) ∈ lw_all := lw_g (lw_at lw_m4 34 rfl) rfl
theorem q1262 : (Jvm.Cond.code ({ cls := "java/lang/RuntimeException", name := "<init>", desc := "()V" } : Jvm.MethodName) prog_58_method_1_code (1 : Nat) (Option.none : Option Jvm.ClassFile.FieldType)) ∈ lw_all := lw_g (lw_at lw_m4 35 rfl) rfl
theorem q1263 : (Jvm.Cond.methodLink "java/lang/RuntimeException" (1 : Nat) ({ cls := "java/lang/Exception", name := "<init>", desc := "()V" } : Jvm.MethodName)) ∈ lw_all := lw_g (lw_at lw_m4 36 rfl) rfl
theorem q3112 : (Jvm.Cond.instanceMethod ({ cls := "java/lang/RuntimeException", name := "<init>", desc := "(Ljava/lang/String;Ljava/lang/Throwable;ZZ)V" } : Jvm.MethodName)) ∈ lw_all := lw_g (lw_at lw_m11 205 rfl) rfl
theorem q3113 : (Jvm.Cond.code ({ cls := "java/lang/RuntimeException", name := "<init>", desc := "(Ljava/lang/String;Ljava/lang/Throwable;ZZ)V" } : Jvm.MethodName) prog_58_method_5_code (5 : Nat) (Option.none : Option Jvm.ClassFile.FieldType)) ∈ lw_all := lw_g (lw_at lw_m11 206 rfl) rfl
theorem q3114 : (Jvm.Cond.methodLink "java/lang/RuntimeException" (16 : Nat) ({ cls := "java/lang/Exception", name := "<init>", desc := "(Ljava/lang/String;Ljava/lang/Throwable;ZZ)V" } : Jvm.MethodName)) ∈ lw_all := lw_g (lw_at lw_m11 207 rfl) rfl

/-! java/lang/IndexOutOfBoundsException -/
set_option maxRecDepth 100000
def RJ3 : String := "java/lang/IndexOutOfBoundsException"
def TJ3 : u_T := fun k => match k with
  | 0 => ("java/lang/Throwable", "cause", "Ljava/lang/Throwable;", false)
  | 1 => ("java/lang/Throwable", "stackTrace", "[Ljava/lang/StackTraceElement;", false)
  | 2 => ("java/lang/Throwable", "suppressedExceptions", "Ljava/util/List;", false)
  | 3 => ("java/lang/Throwable", "detailMessage", "Ljava/lang/String;", false)
  | 4 => ("java/lang/Throwable", "backtrace", "Ljava/lang/Object;", false)
  | _ => ("java/lang/Throwable", "depth", "I", false)
def tyJ3 : Nat → FieldType := fun k => match k with
  | 0 => .object "java/lang/Throwable"
  | 1 => .array (.object "java/lang/StackTraceElement")
  | 2 => .object "java/util/List"
  | 3 => .object "java/lang/String"
  | 4 => .object "java/lang/Object"
  | _ => .int
abbrev wsJ30 : List Cond := u_ws RJ3 TJ3 6
theorem nmJ3 : ∀ a, a < 6 → ∀ b, b < 6 → a ≠ b → (TJ3 a).2.1 ≠ (TJ3 b).2.1 := by decide +kernel
theorem tyJ3_ok : ∀ k, k < 6 → parseFieldDescriptor (TJ3 k).2.2.1 = some (tyJ3 k) := by decide +kernel
abbrev cJ3_init : ByteArray := prog_53_method_2_code
def yJ3_init : MethodName := ⟨RJ3, "<init>", "(Ljava/lang/String;)V"⟩
def dkwJ3_init_0 : List UInt8 := [42, 43, 183, 0, 7, 177]
abbrev dktJ3_init_0 : List UInt8 := dkwJ3_init_0 ++ []
theorem dksJ3_init_0 : cJ3_init.data.toList.drop 0 = dktJ3_init_0 := by decide +kernel
theorem dJ3_init_0 : decode cJ3_init 0 = .ok (.aload_n 0, 1) := dk_42 (dk_at dksJ3_init_0 0 rfl rfl)
theorem dJ3_init_1 : decode cJ3_init 1 = .ok (.aload_n 1, 1) := dk_43 (dk_at dksJ3_init_0 1 rfl rfl)
theorem dJ3_init_2 : decode cJ3_init 2 = .ok (.invokespecial 7, 3) := dk_183 0 7 (dk_at dksJ3_init_0 2 rfl rfl)
theorem dJ3_init_5 : decode cJ3_init 5 = .ok (.return_, 1) := dk_177 (dk_at dksJ3_init_0 5 rfl rfl)
abbrev cJ3_init_2 : ByteArray := prog_53_method_1_code
def yJ3_init_2 : MethodName := ⟨RJ3, "<init>", "()V"⟩
theorem dJ3_init_2_0 : decode cJ3_init_2 0 = .ok (.aload_n 0, 1) := by decide +kernel
theorem dJ3_init_2_1 : decode cJ3_init_2 1 = .ok (.invokespecial 1, 3) := by decide +kernel
theorem dJ3_init_2_4 : decode cJ3_init_2 4 = .ok (.return_, 1) := by decide +kernel
theorem q525 : (Jvm.Cond.initialized "java/lang/IndexOutOfBoundsException") ∈ lw_all := lw_g (lw_at lw_m1 18 rfl) rfl
theorem q1162 : (Jvm.Cond.instanceMethod ({ cls := "java/lang/IndexOutOfBoundsException", name := "<init>", desc := "(Ljava/lang/String;)V" } : Jvm.MethodName)) ∈ lw_all := lw_g (lw_at lw_m3 175 rfl) rfl
theorem q1163 : (Jvm.Cond.code ({ cls := "java/lang/IndexOutOfBoundsException", name := "<init>", desc := "(Ljava/lang/String;)V" } : Jvm.MethodName) prog_53_method_2_code (2 : Nat) (Option.none : Option Jvm.ClassFile.FieldType)) ∈ lw_all := lw_g (lw_at lw_m3 176 rfl) rfl
theorem q1164 : (Jvm.Cond.methodLink "java/lang/IndexOutOfBoundsException" (7 : Nat) ({ cls := "java/lang/RuntimeException", name := "<init>", desc := "(Ljava/lang/String;)V" } : Jvm.MethodName)) ∈ lw_all := lw_g (lw_at lw_m3 177 rfl) rfl
theorem q1189 : (Jvm.Cond.selects "java/lang/IndexOutOfBoundsException" ({ cls := "java/lang/Throwable", name := "fillInStackTrace", desc := "()Ljava/lang/Throwable;" } : Jvm.MethodName) ({ cls := "java/lang/Throwable", name := "fillInStackTrace", desc := "()Ljava/lang/Throwable;" } : Jvm.MethodName)) ∈ lw_all := lw_g (lw_at lw_m3 202 rfl) rfl
theorem q1218 : (Jvm.Cond.declares ({ cls := "java/lang/IndexOutOfBoundsException", name := "<init>", desc := "()V" } : Jvm.MethodName)) ∈ lw_tbl := lw_at lw_m3 231 rfl
theorem q1219 : (Jvm.Cond.declares ({ cls := "java/lang/IndexOutOfBoundsException", name := "<init>", desc := "(Ljava/lang/String;)V" } : Jvm.MethodName)) ∈ lw_tbl := lw_at lw_m3 232 rfl
theorem q1249 : (Jvm.Cond.instantiable "java/lang/IndexOutOfBoundsException" (6 : Nat)) ∈ lw_all := lw_g (lw_at lw_m4 22 rfl) rfl
theorem q1250 : (Jvm.Cond.castable "java/lang/IndexOutOfBoundsException" "java/lang/IndexOutOfBoundsException") ∈ lw_tbl := lw_at lw_m4 23 rfl
theorem q1251 : (Jvm.Cond.selects "java/lang/IndexOutOfBoundsException" ({ cls := "java/lang/Throwable", name := "fillInStackTrace", desc := "(I)Ljava/lang/Throwable;" } : Jvm.MethodName) ({ cls := "java/lang/Throwable", name := "fillInStackTrace", desc := "(I)Ljava/lang/Throwable;" } : Jvm.MethodName)) ∈ lw_all := lw_g (lw_at lw_m4 24 rfl) rfl
theorem q1252 : (Jvm.Cond.lays "java/lang/IndexOutOfBoundsException" "java/lang/Throwable" "cause" "Ljava/lang/Throwable;") ∈ lw_all := lw_g (lw_at lw_m4 25 rfl) rfl
theorem q1253 : (Jvm.Cond.lays "java/lang/IndexOutOfBoundsException" "java/lang/Throwable" "stackTrace" "[Ljava/lang/StackTraceElement;") ∈ lw_all := lw_g (lw_at lw_m4 26 rfl) rfl
theorem q1254 : (Jvm.Cond.lays "java/lang/IndexOutOfBoundsException" "java/lang/Throwable" "suppressedExceptions" "Ljava/util/List;") ∈ lw_all := lw_g (lw_at lw_m4 27 rfl) rfl
theorem q1255 : (Jvm.Cond.lays "java/lang/IndexOutOfBoundsException" "java/lang/Throwable" "detailMessage" "Ljava/lang/String;") ∈ lw_all := lw_g (lw_at lw_m4 28 rfl) rfl
theorem q1256 : (Jvm.Cond.lays "java/lang/IndexOutOfBoundsException" "java/lang/Throwable" "backtrace" "Ljava/lang/Object;") ∈ lw_all := lw_g (lw_at lw_m4 29 rfl) rfl
theorem q1258 : (Jvm.Cond.instanceMethod ({ cls := "java/lang/IndexOutOfBoundsException", name := "<init>", desc := "()V" } : Jvm.MethodName)) ∈ lw_all := lw_g (lw_at lw_m4 31 rfl) rfl
theorem q1259 : (Jvm.Cond.code ({ cls := "java/lang/IndexOutOfBoundsException", name := "<init>", desc := "()V" } : Jvm.MethodName) prog_53_method_1_code (1 : Nat) (Option.none : Option Jvm.ClassFile.FieldType)) ∈ lw_all := lw_g (lw_at lw_m4 32 rfl) rfl
theorem q1260 : (Jvm.Cond.methodLink "java/lang/IndexOutOfBoundsException" (1 : Nat) ({ cls := "java/lang/RuntimeException", name := "<init>", desc := "()V" } : Jvm.MethodName)) ∈ lw_all := lw_g (lw_at lw_m4 33 rfl) rfl
theorem q1267 : (Jvm.Cond.lays "java/lang/IndexOutOfBoundsException" "java/lang/Throwable" "depth" "I") ∈ lw_all := lw_g (lw_at lw_m4 40 rfl) rfl
theorem q1268 : (Jvm.Cond.superclass "java/lang/IndexOutOfBoundsException" "java/lang/RuntimeException") ∈ lw_all := lw_g (lw_at lw_m4 41 rfl) rfl
theorem q6122 : (Jvm.Cond.castable "java/lang/IndexOutOfBoundsException" "java/lang/Object") ∈ lw_tbl := lw_at lw_m24 95 rfl
theorem in_J3 : ∀ w ∈ wsJ30, w ∈ lw_all := lw_in wsJ30 [1252, 1253, 1254, 1255, 1256, 1267] (by decide +kernel) (by decide +kernel)

/-! java/lang/ArrayIndexOutOfBoundsException -/
set_option maxRecDepth 100000
def RJ4 : String := "java/lang/ArrayIndexOutOfBoundsException"
def TJ4 : u_T := fun k => match k with
  | 0 => ("java/lang/Throwable", "backtrace", "Ljava/lang/Object;", false)
  | 1 => ("java/lang/Throwable", "detailMessage", "Ljava/lang/String;", false)
  | 2 => ("java/lang/Throwable", "cause", "Ljava/lang/Throwable;", false)
  | 3 => ("java/lang/Throwable", "stackTrace", "[Ljava/lang/StackTraceElement;", false)
  | 4 => ("java/lang/Throwable", "depth", "I", false)
  | _ => ("java/lang/Throwable", "suppressedExceptions", "Ljava/util/List;", false)
def tyJ4 : Nat → FieldType := fun k => match k with
  | 0 => .object "java/lang/Object"
  | 1 => .object "java/lang/String"
  | 2 => .object "java/lang/Throwable"
  | 3 => .array (.object "java/lang/StackTraceElement")
  | 4 => .int
  | _ => .object "java/util/List"
abbrev wsJ40 : List Cond := u_ws RJ4 TJ4 6
theorem nmJ4 : ∀ a, a < 6 → ∀ b, b < 6 → a ≠ b → (TJ4 a).2.1 ≠ (TJ4 b).2.1 := by decide +kernel
theorem tyJ4_ok : ∀ k, k < 6 → parseFieldDescriptor (TJ4 k).2.2.1 = some (tyJ4 k) := by decide +kernel
abbrev cJ4_init : ByteArray := prog_45_method_2_code
def yJ4_init : MethodName := ⟨RJ4, "<init>", "(Ljava/lang/String;)V"⟩
def dkwJ4_init_0 : List UInt8 := [42, 43, 183, 0, 7, 177]
abbrev dktJ4_init_0 : List UInt8 := dkwJ4_init_0 ++ []
theorem dksJ4_init_0 : cJ4_init.data.toList.drop 0 = dktJ4_init_0 := by decide +kernel
theorem dJ4_init_0 : decode cJ4_init 0 = .ok (.aload_n 0, 1) := dk_42 (dk_at dksJ4_init_0 0 rfl rfl)
theorem dJ4_init_1 : decode cJ4_init 1 = .ok (.aload_n 1, 1) := dk_43 (dk_at dksJ4_init_0 1 rfl rfl)
theorem dJ4_init_2 : decode cJ4_init 2 = .ok (.invokespecial 7, 3) := dk_183 0 7 (dk_at dksJ4_init_0 2 rfl rfl)
theorem dJ4_init_5 : decode cJ4_init 5 = .ok (.return_, 1) := dk_177 (dk_at dksJ4_init_0 5 rfl rfl)
theorem q526 : (Jvm.Cond.initialized "java/lang/ArrayIndexOutOfBoundsException") ∈ lw_all := lw_g (lw_at lw_m1 19 rfl) rfl
theorem q1158 : (Jvm.Cond.instantiable "java/lang/ArrayIndexOutOfBoundsException" (6 : Nat)) ∈ lw_all := lw_g (lw_at lw_m3 171 rfl) rfl
theorem q1159 : (Jvm.Cond.instanceMethod ({ cls := "java/lang/ArrayIndexOutOfBoundsException", name := "<init>", desc := "(Ljava/lang/String;)V" } : Jvm.MethodName)) ∈ lw_all := lw_g (lw_at lw_m3 172 rfl) rfl
theorem q1160 : (Jvm.Cond.code ({ cls := "java/lang/ArrayIndexOutOfBoundsException", name := "<init>", desc := "(Ljava/lang/String;)V" } : Jvm.MethodName) prog_45_method_2_code (2 : Nat) (Option.none : Option Jvm.ClassFile.FieldType)) ∈ lw_all := lw_g (lw_at lw_m3 173 rfl) rfl
theorem q1161 : (Jvm.Cond.methodLink "java/lang/ArrayIndexOutOfBoundsException" (7 : Nat) ({ cls := "java/lang/IndexOutOfBoundsException", name := "<init>", desc := "(Ljava/lang/String;)V" } : Jvm.MethodName)) ∈ lw_all := lw_g (lw_at lw_m3 174 rfl) rfl
theorem q1185 : (Jvm.Cond.selects "java/lang/ArrayIndexOutOfBoundsException" ({ cls := "java/lang/Throwable", name := "fillInStackTrace", desc := "()Ljava/lang/Throwable;" } : Jvm.MethodName) ({ cls := "java/lang/Throwable", name := "fillInStackTrace", desc := "()Ljava/lang/Throwable;" } : Jvm.MethodName)) ∈ lw_all := lw_g (lw_at lw_m3 198 rfl) rfl
theorem q1204 : (Jvm.Cond.lays "java/lang/ArrayIndexOutOfBoundsException" "java/lang/Throwable" "backtrace" "Ljava/lang/Object;") ∈ lw_all := lw_g (lw_at lw_m3 217 rfl) rfl
theorem q1206 : (Jvm.Cond.lays "java/lang/ArrayIndexOutOfBoundsException" "java/lang/Throwable" "detailMessage" "Ljava/lang/String;") ∈ lw_all := lw_g (lw_at lw_m3 219 rfl) rfl
theorem q1208 : (Jvm.Cond.lays "java/lang/ArrayIndexOutOfBoundsException" "java/lang/Throwable" "cause" "Ljava/lang/Throwable;") ∈ lw_all := lw_g (lw_at lw_m3 221 rfl) rfl
theorem q1210 : (Jvm.Cond.lays "java/lang/ArrayIndexOutOfBoundsException" "java/lang/Throwable" "stackTrace" "[Ljava/lang/StackTraceElement;") ∈ lw_all := lw_g (lw_at lw_m3 223 rfl) rfl
theorem q1212 : (Jvm.Cond.lays "java/lang/ArrayIndexOutOfBoundsException" "java/lang/Throwable" "depth" "I") ∈ lw_all := lw_g (lw_at lw_m3 225 rfl) rfl
theorem q1214 : (Jvm.Cond.lays "java/lang/ArrayIndexOutOfBoundsException" "java/lang/Throwable" "suppressedExceptions" "Ljava/util/List;") ∈ lw_all := lw_g (lw_at lw_m3 227 rfl) rfl
theorem q1216 : (Jvm.Cond.superclass "java/lang/ArrayIndexOutOfBoundsException" "java/lang/IndexOutOfBoundsException") ∈ lw_all := lw_g (lw_at lw_m3 229 rfl) rfl
theorem q1217 : (Jvm.Cond.castable "java/lang/ArrayIndexOutOfBoundsException" "java/lang/ArrayIndexOutOfBoundsException") ∈ lw_tbl := lw_at lw_m3 230 rfl
theorem q1226 : (Jvm.Cond.selects "java/lang/ArrayIndexOutOfBoundsException" ({ cls := "java/lang/Throwable", name := "fillInStackTrace", desc := "(I)Ljava/lang/Throwable;" } : Jvm.MethodName) ({ cls := "java/lang/Throwable", name := "fillInStackTrace", desc := "(I)Ljava/lang/Throwable;" } : Jvm.MethodName)) ∈ lw_all := lw_g (lw_at lw_m3 239 rfl) rfl
theorem q6100 : (Jvm.Cond.castable "java/lang/ArrayIndexOutOfBoundsException" "java/lang/IndexOutOfBoundsException") ∈ lw_tbl := lw_at lw_m24 73 rfl
theorem q6121 : (Jvm.Cond.castable "java/lang/ArrayIndexOutOfBoundsException" "java/lang/Object") ∈ lw_tbl := lw_at lw_m24 94 rfl
theorem in_J4 : ∀ w ∈ wsJ40, w ∈ lw_all := lw_in wsJ40 [1204, 1206, 1208, 1210, 1212, 1214] (by decide +kernel) (by decide +kernel)

/-! java/lang/String -/
set_option maxRecDepth 100000
def RJ5 : String := "java/lang/String"
def TJ5 : u_T := fun k => match k with
  | 0 => ("java/lang/String", "value", "[B", true)
  | _ => ("java/lang/String", "code\x72", "B", true)
def tyJ5 : Nat → FieldType := fun k => match k with
  | 0 => .array .byte
  | _ => .byte
abbrev wsJ50 : List Cond := u_ws RJ5 TJ5 2
theorem nmJ5 : ∀ a, a < 2 → ∀ b, b < 2 → a ≠ b → (TJ5 a).2.1 ≠ (TJ5 b).2.1 := by decide +kernel
theorem tyJ5_ok : ∀ k, k < 2 → parseFieldDescriptor (TJ5 k).2.2.1 = some (tyJ5 k) := by decide +kernel
abbrev cJ5_length : ByteArray := prog_59_method_54_code
def yJ5_length : MethodName := ⟨RJ5, "length", "()I"⟩
def dkwJ5_length_0 : List UInt8 := [42, 180, 0, 9, 190, 42, 182, 1, 79, 122, 172]
abbrev dktJ5_length_0 : List UInt8 := dkwJ5_length_0 ++ []
theorem dksJ5_length_0 : cJ5_length.data.toList.drop 0 = dktJ5_length_0 := by decide +kernel
theorem dJ5_length_0 : decode cJ5_length 0 = .ok (.aload_n 0, 1) := dk_42 (dk_at dksJ5_length_0 0 rfl rfl)
theorem dJ5_length_1 : decode cJ5_length 1 = .ok (.getfield 9, 3) := dk_180 0 9 (dk_at dksJ5_length_0 1 rfl rfl)
theorem dJ5_length_4 : decode cJ5_length 4 = .ok (.arraylength, 1) := dk_190 (dk_at dksJ5_length_0 4 rfl rfl)
theorem dJ5_length_5 : decode cJ5_length 5 = .ok (.aload_n 0, 1) := dk_42 (dk_at dksJ5_length_0 5 rfl rfl)
theorem dJ5_length_6 : decode cJ5_length 6 = .ok (.invokevirtual 335, 3) := dk_182 1 79 (dk_at dksJ5_length_0 6 rfl rfl)
theorem dJ5_length_9 : decode cJ5_length 9 = .ok (.ishr, 1) := dk_122 (dk_at dksJ5_length_0 9 rfl rfl)
theorem dJ5_length_10 : decode cJ5_length 10 = .ok (.ireturn, 1) := dk_172 (dk_at dksJ5_length_0 10 rfl rfl)
abbrev cJ5_coder : ByteArray := prog_59_method_152_code
def yJ5_coder : MethodName := ⟨RJ5, "code\x72", "()B"⟩
def dkwJ5_coder_0 : List UInt8 := [178, 0, 38, 153, 0, 10, 42, 180, 0, 15, 167, 0, 4, 4, 172]
abbrev dktJ5_coder_0 : List UInt8 := dkwJ5_coder_0 ++ []
theorem dksJ5_coder_0 : cJ5_coder.data.toList.drop 0 = dktJ5_coder_0 := by decide +kernel
theorem dJ5_coder_0 : decode cJ5_coder 0 = .ok (.getstatic 38, 3) := dk_178 0 38 (dk_at dksJ5_coder_0 0 rfl rfl)
theorem dJ5_coder_3 : decode cJ5_coder 3 = .ok (.ifCond .eq 10, 3) := dk_153 0 10 (dk_at dksJ5_coder_0 3 rfl rfl)
theorem dJ5_coder_6 : decode cJ5_coder 6 = .ok (.aload_n 0, 1) := dk_42 (dk_at dksJ5_coder_0 6 rfl rfl)
theorem dJ5_coder_7 : decode cJ5_coder 7 = .ok (.getfield 15, 3) := dk_180 0 15 (dk_at dksJ5_coder_0 7 rfl rfl)
theorem dJ5_coder_10 : decode cJ5_coder 10 = .ok (.goto 4, 3) := dk_167 0 4 (dk_at dksJ5_coder_0 10 rfl rfl)
theorem dJ5_coder_13 : decode cJ5_coder 13 = .ok (.iconst 1, 1) := dk_4 (dk_at dksJ5_coder_0 13 rfl rfl)
theorem dJ5_coder_14 : decode cJ5_coder 14 = .ok (.ireturn, 1) := dk_172 (dk_at dksJ5_coder_0 14 rfl rfl)
abbrev cJ5_charAt : ByteArray := prog_59_method_56_code
def yJ5_charAt : MethodName := ⟨RJ5, "charAt", "(I)C"⟩
def dkwJ5_charAt_1 : List UInt8 := [172]
abbrev dktJ5_charAt_1 : List UInt8 := dkwJ5_charAt_1 ++ []
def dkwJ5_charAt_0 : List UInt8 := [42, 182, 1, 236, 153, 0, 12, 42, 180, 0, 9, 27, 184, 1, 239, 172, 42, 180, 0, 9, 27, 184, 1, 242]
abbrev dktJ5_charAt_0 : List UInt8 := dkwJ5_charAt_0 ++ dktJ5_charAt_1
theorem dksJ5_charAt_0 : cJ5_charAt.data.toList.drop 0 = dktJ5_charAt_0 := by decide +kernel
theorem dksJ5_charAt_1 : cJ5_charAt.data.toList.drop 24 = dktJ5_charAt_1 := dk_seg dksJ5_charAt_0 24 rfl rfl
theorem dJ5_charAt_0 : decode cJ5_charAt 0 = .ok (.aload_n 0, 1) := dk_42 (dk_at dksJ5_charAt_0 0 rfl rfl)
theorem dJ5_charAt_1 : decode cJ5_charAt 1 = .ok (.invokevirtual 492, 3) := dk_182 1 236 (dk_at dksJ5_charAt_0 1 rfl rfl)
theorem dJ5_charAt_4 : decode cJ5_charAt 4 = .ok (.ifCond .eq 12, 3) := dk_153 0 12 (dk_at dksJ5_charAt_0 4 rfl rfl)
theorem dJ5_charAt_7 : decode cJ5_charAt 7 = .ok (.aload_n 0, 1) := dk_42 (dk_at dksJ5_charAt_0 7 rfl rfl)
theorem dJ5_charAt_8 : decode cJ5_charAt 8 = .ok (.getfield 9, 3) := dk_180 0 9 (dk_at dksJ5_charAt_0 8 rfl rfl)
theorem dJ5_charAt_11 : decode cJ5_charAt 11 = .ok (.iload_n 1, 1) := dk_27 (dk_at dksJ5_charAt_0 11 rfl rfl)
theorem dJ5_charAt_12 : decode cJ5_charAt 12 = .ok (.invokestatic 495, 3) := dk_184 1 239 (dk_at dksJ5_charAt_0 12 rfl rfl)
theorem dJ5_charAt_15 : decode cJ5_charAt 15 = .ok (.ireturn, 1) := dk_172 (dk_at dksJ5_charAt_0 15 rfl rfl)
theorem dJ5_charAt_16 : decode cJ5_charAt 16 = .ok (.aload_n 0, 1) := dk_42 (dk_at dksJ5_charAt_0 16 rfl rfl)
theorem dJ5_charAt_17 : decode cJ5_charAt 17 = .ok (.getfield 9, 3) := dk_180 0 9 (dk_at dksJ5_charAt_0 17 rfl rfl)
theorem dJ5_charAt_20 : decode cJ5_charAt 20 = .ok (.iload_n 1, 1) := dk_27 (dk_at dksJ5_charAt_0 20 rfl rfl)
theorem dJ5_charAt_21 : decode cJ5_charAt 21 = .ok (.invokestatic 498, 3) := dk_184 1 242 (dk_at dksJ5_charAt_0 21 rfl rfl)
theorem dJ5_charAt_24 : decode cJ5_charAt 24 = .ok (.ireturn, 1) := dk_172 (dk_at dksJ5_charAt_1 0 rfl rfl)
abbrev cJ5_isLatin1 : ByteArray := prog_59_method_154_code
def yJ5_isLatin1 : MethodName := ⟨RJ5, "isLatin1", "()Z"⟩
def dkwJ5_isLatin1_0 : List UInt8 := [178, 0, 38, 153, 0, 14, 42, 180, 0, 15, 154, 0, 7, 4, 167, 0, 4, 3, 172]
abbrev dktJ5_isLatin1_0 : List UInt8 := dkwJ5_isLatin1_0 ++ []
theorem dksJ5_isLatin1_0 : cJ5_isLatin1.data.toList.drop 0 = dktJ5_isLatin1_0 := by decide +kernel
theorem dJ5_isLatin1_0 : decode cJ5_isLatin1 0 = .ok (.getstatic 38, 3) := dk_178 0 38 (dk_at dksJ5_isLatin1_0 0 rfl rfl)
theorem dJ5_isLatin1_3 : decode cJ5_isLatin1 3 = .ok (.ifCond .eq 14, 3) := dk_153 0 14 (dk_at dksJ5_isLatin1_0 3 rfl rfl)
theorem dJ5_isLatin1_6 : decode cJ5_isLatin1 6 = .ok (.aload_n 0, 1) := dk_42 (dk_at dksJ5_isLatin1_0 6 rfl rfl)
theorem dJ5_isLatin1_7 : decode cJ5_isLatin1 7 = .ok (.getfield 15, 3) := dk_180 0 15 (dk_at dksJ5_isLatin1_0 7 rfl rfl)
theorem dJ5_isLatin1_10 : decode cJ5_isLatin1 10 = .ok (.ifCond .ne 7, 3) := dk_154 0 7 (dk_at dksJ5_isLatin1_0 10 rfl rfl)
theorem dJ5_isLatin1_13 : decode cJ5_isLatin1 13 = .ok (.iconst 1, 1) := dk_4 (dk_at dksJ5_isLatin1_0 13 rfl rfl)
theorem dJ5_isLatin1_14 : decode cJ5_isLatin1 14 = .ok (.goto 4, 3) := dk_167 0 4 (dk_at dksJ5_isLatin1_0 14 rfl rfl)
theorem dJ5_isLatin1_17 : decode cJ5_isLatin1 17 = .ok (.iconst 0, 1) := dk_3 (dk_at dksJ5_isLatin1_0 17 rfl rfl)
theorem dJ5_isLatin1_18 : decode cJ5_isLatin1 18 = .ok (.ireturn, 1) := dk_172 (dk_at dksJ5_isLatin1_0 18 rfl rfl)
abbrev cJ5_checkIndex : ByteArray := prog_59_method_155_code
def yJ5_checkIndex : MethodName := ⟨RJ5, "checkIndex", "(II)V"⟩
def dkwJ5_checkIndex_0 : List UInt8 := [26, 27, 178, 4, 29, 184, 4, 35, 87, 177]
abbrev dktJ5_checkIndex_0 : List UInt8 := dkwJ5_checkIndex_0 ++ []
theorem dksJ5_checkIndex_0 : cJ5_checkIndex.data.toList.drop 0 = dktJ5_checkIndex_0 := by decide +kernel
theorem dJ5_checkIndex_0 : decode cJ5_checkIndex 0 = .ok (.iload_n 0, 1) := dk_26 (dk_at dksJ5_checkIndex_0 0 rfl rfl)
theorem dJ5_checkIndex_1 : decode cJ5_checkIndex 1 = .ok (.iload_n 1, 1) := dk_27 (dk_at dksJ5_checkIndex_0 1 rfl rfl)
theorem dJ5_checkIndex_2 : decode cJ5_checkIndex 2 = .ok (.getstatic 1053, 3) := dk_178 4 29 (dk_at dksJ5_checkIndex_0 2 rfl rfl)
theorem dJ5_checkIndex_5 : decode cJ5_checkIndex 5 = .ok (.invokestatic 1059, 3) := dk_184 4 35 (dk_at dksJ5_checkIndex_0 5 rfl rfl)
theorem dJ5_checkIndex_8 : decode cJ5_checkIndex 8 = .ok (.pop, 1) := dk_87 (dk_at dksJ5_checkIndex_0 8 rfl rfl)
theorem dJ5_checkIndex_9 : decode cJ5_checkIndex 9 = .ok (.return_, 1) := dk_177 (dk_at dksJ5_checkIndex_0 9 rfl rfl)
abbrev cJ5_indexOf : ByteArray := prog_59_method_79_code
def yJ5_indexOf : MethodName := ⟨RJ5, "indexOf", "(I)I"⟩
def dkwJ5_indexOf_0 : List UInt8 := [42, 27, 3, 182, 2, 121, 172]
abbrev dktJ5_indexOf_0 : List UInt8 := dkwJ5_indexOf_0 ++ []
theorem dksJ5_indexOf_0 : cJ5_indexOf.data.toList.drop 0 = dktJ5_indexOf_0 := by decide +kernel
theorem dJ5_indexOf_0 : decode cJ5_indexOf 0 = .ok (.aload_n 0, 1) := dk_42 (dk_at dksJ5_indexOf_0 0 rfl rfl)
theorem dJ5_indexOf_1 : decode cJ5_indexOf 1 = .ok (.iload_n 1, 1) := dk_27 (dk_at dksJ5_indexOf_0 1 rfl rfl)
theorem dJ5_indexOf_2 : decode cJ5_indexOf 2 = .ok (.iconst 0, 1) := dk_3 (dk_at dksJ5_indexOf_0 2 rfl rfl)
theorem dJ5_indexOf_3 : decode cJ5_indexOf 3 = .ok (.invokevirtual 633, 3) := dk_182 2 121 (dk_at dksJ5_indexOf_0 3 rfl rfl)
theorem dJ5_indexOf_6 : decode cJ5_indexOf 6 = .ok (.ireturn, 1) := dk_172 (dk_at dksJ5_indexOf_0 6 rfl rfl)
abbrev cJ5_indexOf_2 : ByteArray := prog_59_method_80_code
def yJ5_indexOf_2 : MethodName := ⟨RJ5, "indexOf", "(II)I"⟩
def dkwJ5_indexOf_2_1 : List UInt8 := [180, 0, 9, 27, 28, 42, 182, 1, 249, 184, 2, 128, 172]
abbrev dktJ5_indexOf_2_1 : List UInt8 := dkwJ5_indexOf_2_1 ++ []
def dkwJ5_indexOf_2_0 : List UInt8 := [42, 182, 1, 236, 153, 0, 19, 42, 180, 0, 9, 27, 28, 42, 182, 1, 249, 184, 2, 125, 167, 0, 16, 42]
abbrev dktJ5_indexOf_2_0 : List UInt8 := dkwJ5_indexOf_2_0 ++ dktJ5_indexOf_2_1
theorem dksJ5_indexOf_2_0 : cJ5_indexOf_2.data.toList.drop 0 = dktJ5_indexOf_2_0 := by decide +kernel
theorem dksJ5_indexOf_2_1 : cJ5_indexOf_2.data.toList.drop 24 = dktJ5_indexOf_2_1 := dk_seg dksJ5_indexOf_2_0 24 rfl rfl
theorem dJ5_indexOf_2_0 : decode cJ5_indexOf_2 0 = .ok (.aload_n 0, 1) := dk_42 (dk_at dksJ5_indexOf_2_0 0 rfl rfl)
theorem dJ5_indexOf_2_1 : decode cJ5_indexOf_2 1 = .ok (.invokevirtual 492, 3) := dk_182 1 236 (dk_at dksJ5_indexOf_2_0 1 rfl rfl)
theorem dJ5_indexOf_2_4 : decode cJ5_indexOf_2 4 = .ok (.ifCond .eq 19, 3) := dk_153 0 19 (dk_at dksJ5_indexOf_2_0 4 rfl rfl)
theorem dJ5_indexOf_2_7 : decode cJ5_indexOf_2 7 = .ok (.aload_n 0, 1) := dk_42 (dk_at dksJ5_indexOf_2_0 7 rfl rfl)
theorem dJ5_indexOf_2_8 : decode cJ5_indexOf_2 8 = .ok (.getfield 9, 3) := dk_180 0 9 (dk_at dksJ5_indexOf_2_0 8 rfl rfl)
theorem dJ5_indexOf_2_11 : decode cJ5_indexOf_2 11 = .ok (.iload_n 1, 1) := dk_27 (dk_at dksJ5_indexOf_2_0 11 rfl rfl)
theorem dJ5_indexOf_2_12 : decode cJ5_indexOf_2 12 = .ok (.iload_n 2, 1) := dk_28 (dk_at dksJ5_indexOf_2_0 12 rfl rfl)
theorem dJ5_indexOf_2_13 : decode cJ5_indexOf_2 13 = .ok (.aload_n 0, 1) := dk_42 (dk_at dksJ5_indexOf_2_0 13 rfl rfl)
theorem dJ5_indexOf_2_14 : decode cJ5_indexOf_2 14 = .ok (.invokevirtual 505, 3) := dk_182 1 249 (dk_at dksJ5_indexOf_2_0 14 rfl rfl)
theorem dJ5_indexOf_2_17 : decode cJ5_indexOf_2 17 = .ok (.invokestatic 637, 3) := dk_184 2 125 (dk_at dksJ5_indexOf_2_0 17 rfl rfl)
theorem dJ5_indexOf_2_20 : decode cJ5_indexOf_2 20 = .ok (.goto 16, 3) := dk_167 0 16 (dk_at dksJ5_indexOf_2_0 20 rfl rfl)
theorem dJ5_indexOf_2_23 : decode cJ5_indexOf_2 23 = .ok (.aload_n 0, 1) := dk_42 (dk_at dksJ5_indexOf_2_0 23 rfl rfl)
theorem dJ5_indexOf_2_24 : decode cJ5_indexOf_2 24 = .ok (.getfield 9, 3) := dk_180 0 9 (dk_at dksJ5_indexOf_2_1 0 rfl rfl)
theorem dJ5_indexOf_2_27 : decode cJ5_indexOf_2 27 = .ok (.iload_n 1, 1) := dk_27 (dk_at dksJ5_indexOf_2_1 3 rfl rfl)
theorem dJ5_indexOf_2_28 : decode cJ5_indexOf_2 28 = .ok (.iload_n 2, 1) := dk_28 (dk_at dksJ5_indexOf_2_1 4 rfl rfl)
theorem dJ5_indexOf_2_29 : decode cJ5_indexOf_2 29 = .ok (.aload_n 0, 1) := dk_42 (dk_at dksJ5_indexOf_2_1 5 rfl rfl)
theorem dJ5_indexOf_2_30 : decode cJ5_indexOf_2 30 = .ok (.invokevirtual 505, 3) := dk_182 1 249 (dk_at dksJ5_indexOf_2_1 6 rfl rfl)
theorem dJ5_indexOf_2_33 : decode cJ5_indexOf_2 33 = .ok (.invokestatic 640, 3) := dk_184 2 128 (dk_at dksJ5_indexOf_2_1 9 rfl rfl)
theorem dJ5_indexOf_2_36 : decode cJ5_indexOf_2 36 = .ok (.ireturn, 1) := dk_172 (dk_at dksJ5_indexOf_2_1 12 rfl rfl)
abbrev cJ5_checkBoundsBeginEnd : ByteArray := prog_59_method_158_code
def yJ5_checkBoundsBeginEnd : MethodName := ⟨RJ5, "checkBoundsBeginEnd", "(III)V"⟩
def dkwJ5_checkBoundsBeginEnd_0 : List UInt8 := [26, 27, 28, 178, 4, 29, 184, 4, 38, 87, 177]
abbrev dktJ5_checkBoundsBeginEnd_0 : List UInt8 := dkwJ5_checkBoundsBeginEnd_0 ++ []
theorem dksJ5_checkBoundsBeginEnd_0 : cJ5_checkBoundsBeginEnd.data.toList.drop 0 = dktJ5_checkBoundsBeginEnd_0 := by decide +kernel
theorem dJ5_checkBoundsBeginEnd_0 : decode cJ5_checkBoundsBeginEnd 0 = .ok (.iload_n 0, 1) := dk_26 (dk_at dksJ5_checkBoundsBeginEnd_0 0 rfl rfl)
theorem dJ5_checkBoundsBeginEnd_1 : decode cJ5_checkBoundsBeginEnd 1 = .ok (.iload_n 1, 1) := dk_27 (dk_at dksJ5_checkBoundsBeginEnd_0 1 rfl rfl)
theorem dJ5_checkBoundsBeginEnd_2 : decode cJ5_checkBoundsBeginEnd 2 = .ok (.iload_n 2, 1) := dk_28 (dk_at dksJ5_checkBoundsBeginEnd_0 2 rfl rfl)
theorem dJ5_checkBoundsBeginEnd_3 : decode cJ5_checkBoundsBeginEnd 3 = .ok (.getstatic 1053, 3) := dk_178 4 29 (dk_at dksJ5_checkBoundsBeginEnd_0 3 rfl rfl)
theorem dJ5_checkBoundsBeginEnd_6 : decode cJ5_checkBoundsBeginEnd 6 = .ok (.invokestatic 1062, 3) := dk_184 4 38 (dk_at dksJ5_checkBoundsBeginEnd_0 6 rfl rfl)
theorem dJ5_checkBoundsBeginEnd_9 : decode cJ5_checkBoundsBeginEnd 9 = .ok (.pop, 1) := dk_87 (dk_at dksJ5_checkBoundsBeginEnd_0 9 rfl rfl)
theorem dJ5_checkBoundsBeginEnd_10 : decode cJ5_checkBoundsBeginEnd 10 = .ok (.return_, 1) := dk_177 (dk_at dksJ5_checkBoundsBeginEnd_0 10 rfl rfl)
theorem q527 : (Jvm.Cond.initialized "java/lang/String") ∈ lw_all := lw_g (lw_at lw_m1 20 rfl) rfl
theorem q1236 : (Jvm.Cond.instantiable "java/lang/String" (4 : Nat)) ∈ lw_all := lw_g (lw_at lw_m4 9 rfl) rfl
theorem q1237 : (Jvm.Cond.laysFinal "java/lang/String" "java/lang/String" "value" "[B") ∈ lw_all := lw_g (lw_at lw_m4 10 rfl) rfl
theorem q1238 : (Jvm.Cond.soleField "java/lang/String" "value") ∈ lw_all := lw_g (lw_at lw_m4 11 rfl) rfl
theorem q1239 : (Jvm.Cond.laysFinal "java/lang/String" "java/lang/String" "code\x72" "B") ∈ lw_all := lw_g (lw_at lw_m4 12 rfl) rfl
theorem q1240 : (Jvm.Cond.soleField "java/lang/String" "code\x72") ∈ lw_all := lw_g (lw_at lw_m4 13 rfl) rfl
theorem q3513 : (Jvm.Cond.instanceMethod ({ cls := "java/lang/String", name := "length", desc := "()I" } : Jvm.MethodName)) ∈ lw_all := lw_g (lw_at lw_m13 126 rfl) rfl
theorem q3514 : (Jvm.Cond.selects "java/lang/String" ({ cls := "java/lang/String", name := "length", desc := "()I" } : Jvm.MethodName) ({ cls := "java/lang/String", name := "length", desc := "()I" } : Jvm.MethodName)) ∈ lw_all := lw_g (lw_at lw_m13 127 rfl) rfl
theorem q3515 : (Jvm.Cond.code ({ cls := "java/lang/String", name := "length", desc := "()I" } : Jvm.MethodName) prog_59_method_54_code (1 : Nat) (Option.some Jvm.ClassFile.FieldType.int)) ∈ lw_all := lw_g (lw_at lw_m13 128 rfl) rfl
theorem q3516 : (Jvm.Cond.methodLink "java/lang/String" (335 : Nat) ({ cls := "java/lang/String", name := "code\x72", desc := "()B" } : Jvm.MethodName)) ∈ lw_all := lw_g (lw_at lw_m13 129 rfl) rfl
theorem q3517 : (Jvm.Cond.instanceMethod ({ cls := "java/lang/String", name := "code\x72", desc := "()B" } : Jvm.MethodName)) ∈ lw_all := lw_g (lw_at lw_m13 130 rfl) rfl
theorem q3518 : (Jvm.Cond.selects "java/lang/String" ({ cls := "java/lang/String", name := "code\x72", desc := "()B" } : Jvm.MethodName) ({ cls := "java/lang/String", name := "code\x72", desc := "()B" } : Jvm.MethodName)) ∈ lw_all := lw_g (lw_at lw_m13 131 rfl) rfl
theorem q3519 : (Jvm.Cond.code ({ cls := "java/lang/String", name := "code\x72", desc := "()B" } : Jvm.MethodName) prog_59_method_152_code (1 : Nat) (Option.some Jvm.ClassFile.FieldType.byte)) ∈ lw_all := lw_g (lw_at lw_m13 132 rfl) rfl
theorem q3520 : (Jvm.Cond.fieldLink "java/lang/String" (38 : Nat) "java/lang/String" "COMPACT_STRINGS" "Z") ∈ lw_all := lw_g (lw_at lw_m13 133 rfl) rfl
theorem q3521 : (Jvm.Cond.laysStatic "java/lang/String" "COMPACT_STRINGS" "Z") ∈ lw_tbl := lw_at lw_m13 134 rfl
theorem q3523 : (Jvm.Cond.instanceMethod ({ cls := "java/lang/String", name := "charAt", desc := "(I)C" } : Jvm.MethodName)) ∈ lw_all := lw_g (lw_at lw_m13 136 rfl) rfl
theorem q3524 : (Jvm.Cond.selects "java/lang/String" ({ cls := "java/lang/String", name := "charAt", desc := "(I)C" } : Jvm.MethodName) ({ cls := "java/lang/String", name := "charAt", desc := "(I)C" } : Jvm.MethodName)) ∈ lw_all := lw_g (lw_at lw_m13 137 rfl) rfl
theorem q3525 : (Jvm.Cond.code ({ cls := "java/lang/String", name := "charAt", desc := "(I)C" } : Jvm.MethodName) prog_59_method_56_code (2 : Nat) (Option.some Jvm.ClassFile.FieldType.char)) ∈ lw_all := lw_g (lw_at lw_m13 138 rfl) rfl
theorem q3526 : (Jvm.Cond.methodLink "java/lang/String" (492 : Nat) ({ cls := "java/lang/String", name := "isLatin1", desc := "()Z" } : Jvm.MethodName)) ∈ lw_all := lw_g (lw_at lw_m13 139 rfl) rfl
theorem q3527 : (Jvm.Cond.instanceMethod ({ cls := "java/lang/String", name := "isLatin1", desc := "()Z" } : Jvm.MethodName)) ∈ lw_all := lw_g (lw_at lw_m13 140 rfl) rfl
theorem q3528 : (Jvm.Cond.selects "java/lang/String" ({ cls := "java/lang/String", name := "isLatin1", desc := "()Z" } : Jvm.MethodName) ({ cls := "java/lang/String", name := "isLatin1", desc := "()Z" } : Jvm.MethodName)) ∈ lw_all := lw_g (lw_at lw_m13 141 rfl) rfl
theorem q3529 : (Jvm.Cond.code ({ cls := "java/lang/String", name := "isLatin1", desc := "()Z" } : Jvm.MethodName) prog_59_method_154_code (1 : Nat) (Option.some Jvm.ClassFile.FieldType.boolean)) ∈ lw_all := lw_g (lw_at lw_m13 142 rfl) rfl
theorem q3530 : (Jvm.Cond.methodLink "java/lang/String" (495 : Nat) ({ cls := "java/lang/StringLatin1", name := "charAt", desc := "([BI)C" } : Jvm.MethodName)) ∈ lw_all := lw_g (lw_at lw_m13 143 rfl) rfl
theorem q3534 : (Jvm.Cond.static ({ cls := "java/lang/String", name := "checkIndex", desc := "(II)V" } : Jvm.MethodName)) ∈ lw_all := lw_g (lw_at lw_m13 147 rfl) rfl
theorem q3535 : (Jvm.Cond.code ({ cls := "java/lang/String", name := "checkIndex", desc := "(II)V" } : Jvm.MethodName) prog_59_method_155_code (2 : Nat) (Option.none : Option Jvm.ClassFile.FieldType)) ∈ lw_all := lw_g (lw_at lw_m13 148 rfl) rfl
theorem q3536 : (Jvm.Cond.fieldLink "java/lang/String" (1053 : Nat) "jdk/internal/util/Preconditions" "SIOOBE_FORMATTER" "Ljava/util/function/BiFunction;") ∈ lw_all := lw_g (lw_at lw_m13 149 rfl) rfl
theorem q3538 : (Jvm.Cond.methodLink "java/lang/String" (1059 : Nat) ({ cls := "jdk/internal/util/Preconditions", name := "checkIndex", desc := "(IILjava/util/function/BiFunction;)I" } : Jvm.MethodName)) ∈ lw_all := lw_g (lw_at lw_m13 151 rfl) rfl
theorem q3541 : (Jvm.Cond.methodLink "java/lang/String" (498 : Nat) ({ cls := "java/lang/StringUTF16", name := "charAt", desc := "([BI)C" } : Jvm.MethodName)) ∈ lw_all := lw_g (lw_at lw_m13 154 rfl) rfl
theorem q5454 : (Jvm.Cond.instanceMethod ({ cls := "java/lang/String", name := "indexOf", desc := "(I)I" } : Jvm.MethodName)) ∈ lw_all := lw_g (lw_at lw_m21 147 rfl) rfl
theorem q5455 : (Jvm.Cond.selects "java/lang/String" ({ cls := "java/lang/String", name := "indexOf", desc := "(I)I" } : Jvm.MethodName) ({ cls := "java/lang/String", name := "indexOf", desc := "(I)I" } : Jvm.MethodName)) ∈ lw_all := lw_g (lw_at lw_m21 148 rfl) rfl
theorem q5456 : (Jvm.Cond.code ({ cls := "java/lang/String", name := "indexOf", desc := "(I)I" } : Jvm.MethodName) prog_59_method_79_code (2 : Nat) (Option.some Jvm.ClassFile.FieldType.int)) ∈ lw_all := lw_g (lw_at lw_m21 149 rfl) rfl
theorem q5457 : (Jvm.Cond.methodLink "java/lang/String" (633 : Nat) ({ cls := "java/lang/String", name := "indexOf", desc := "(II)I" } : Jvm.MethodName)) ∈ lw_all := lw_g (lw_at lw_m21 150 rfl) rfl
theorem q5458 : (Jvm.Cond.instanceMethod ({ cls := "java/lang/String", name := "indexOf", desc := "(II)I" } : Jvm.MethodName)) ∈ lw_all := lw_g (lw_at lw_m21 151 rfl) rfl
theorem q5459 : (Jvm.Cond.selects "java/lang/String" ({ cls := "java/lang/String", name := "indexOf", desc := "(II)I" } : Jvm.MethodName) ({ cls := "java/lang/String", name := "indexOf", desc := "(II)I" } : Jvm.MethodName)) ∈ lw_all := lw_g (lw_at lw_m21 152 rfl) rfl
theorem q5460 : (Jvm.Cond.code ({ cls := "java/lang/String", name := "indexOf", desc := "(II)I" } : Jvm.MethodName) prog_59_method_80_code (3 : Nat) (Option.some Jvm.ClassFile.FieldType.int)) ∈ lw_all := lw_g (lw_at lw_m21 153 rfl) rfl
theorem q5461 : (Jvm.Cond.methodLink "java/lang/String" (505 : Nat) ({ cls := "java/lang/String", name := "length", desc := "()I" } : Jvm.MethodName)) ∈ lw_all := lw_g (lw_at lw_m21 154 rfl) rfl
theorem q5462 : (Jvm.Cond.methodLink "java/lang/String" (637 : Nat) ({ cls := "java/lang/StringLatin1", name := "indexOf", desc := "([BIII)I" } : Jvm.MethodName)) ∈ lw_all := lw_g (lw_at lw_m21 155 rfl) rfl
theorem q5473 : (Jvm.Cond.methodLink "java/lang/String" (640 : Nat) ({ cls := "java/lang/StringUTF16", name := "indexOf", desc := "([BIII)I" } : Jvm.MethodName)) ∈ lw_all := lw_g (lw_at lw_m21 166 rfl) rfl
theorem q5486 : (Jvm.Cond.static ({ cls := "java/lang/String", name := "checkBoundsBeginEnd", desc := "(III)V" } : Jvm.MethodName)) ∈ lw_all := lw_g (lw_at lw_m21 179 rfl) rfl
theorem q5487 : (Jvm.Cond.code ({ cls := "java/lang/String", name := "checkBoundsBeginEnd", desc := "(III)V" } : Jvm.MethodName) prog_59_method_158_code (3 : Nat) (Option.none : Option Jvm.ClassFile.FieldType)) ∈ lw_all := lw_g (lw_at lw_m21 180 rfl) rfl
theorem q5488 : (Jvm.Cond.methodLink "java/lang/String" (1062 : Nat) ({ cls := "jdk/internal/util/Preconditions", name := "checkFromToIndex", desc := "(IIILjava/util/function/BiFunction;)I" } : Jvm.MethodName)) ∈ lw_all := lw_g (lw_at lw_m21 181 rfl) rfl
theorem q6152 : (Jvm.Cond.castable "java/lang/String" "java/lang/Object") ∈ lw_tbl := lw_at lw_m24 125 rfl
theorem q6168 : (Jvm.Cond.fieldLink "java/lang/String" (9 : Nat) "java/lang/String" "value" "[B") ∈ lw_all := lw_g (lw_at lw_m24 141 rfl) rfl
theorem q6169 : (Jvm.Cond.fieldLink "java/lang/String" (15 : Nat) "java/lang/String" "code\x72" "B") ∈ lw_all := lw_g (lw_at lw_m24 142 rfl) rfl
theorem in_J5 : ∀ w ∈ wsJ50, w ∈ lw_all := lw_in wsJ50 [1237, 1239] (by decide +kernel) (by decide +kernel)

/-! java/lang/IllegalArgumentException -/
set_option maxRecDepth 100000
def RJ6 : String := "java/lang/IllegalArgumentException"
def TJ6 : u_T := fun k => match k with
  | 0 => ("java/lang/Throwable", "cause", "Ljava/lang/Throwable;", false)
  | 1 => ("java/lang/Throwable", "stackTrace", "[Ljava/lang/StackTraceElement;", false)
  | 2 => ("java/lang/Throwable", "suppressedExceptions", "Ljava/util/List;", false)
  | 3 => ("java/lang/Throwable", "detailMessage", "Ljava/lang/String;", false)
  | 4 => ("java/lang/Throwable", "backtrace", "Ljava/lang/Object;", false)
  | _ => ("java/lang/Throwable", "depth", "I", false)
def tyJ6 : Nat → FieldType := fun k => match k with
  | 0 => .object "java/lang/Throwable"
  | 1 => .array (.object "java/lang/StackTraceElement")
  | 2 => .object "java/util/List"
  | 3 => .object "java/lang/String"
  | 4 => .object "java/lang/Object"
  | _ => .int
abbrev wsJ60 : List Cond := u_ws RJ6 TJ6 6
theorem nmJ6 : ∀ a, a < 6 → ∀ b, b < 6 → a ≠ b → (TJ6 a).2.1 ≠ (TJ6 b).2.1 := by decide +kernel
theorem tyJ6_ok : ∀ k, k < 6 → parseFieldDescriptor (TJ6 k).2.2.1 = some (tyJ6 k) := by decide +kernel
abbrev cJ6_init : ByteArray := prog_51_method_1_code
def yJ6_init : MethodName := ⟨RJ6, "<init>", "()V"⟩
theorem dJ6_init_0 : decode cJ6_init 0 = .ok (.aload_n 0, 1) := by decide +kernel
theorem dJ6_init_1 : decode cJ6_init 1 = .ok (.invokespecial 1, 3) := by decide +kernel
theorem dJ6_init_4 : decode cJ6_init 4 = .ok (.return_, 1) := by decide +kernel
theorem q528 : (Jvm.Cond.initialized "java/lang/IllegalArgumentException") ∈ lw_all := lw_g (lw_at lw_m1 21 rfl) rfl
theorem q1187 : (Jvm.Cond.selects "java/lang/IllegalArgumentException" ({ cls := "java/lang/Throwable", name := "fillInStackTrace", desc := "()Ljava/lang/Throwable;" } : Jvm.MethodName) ({ cls := "java/lang/Throwable", name := "fillInStackTrace", desc := "()Ljava/lang/Throwable;" } : Jvm.MethodName)) ∈ lw_all := lw_g (lw_at lw_m3 200 rfl) rfl
theorem q1285 : (Jvm.Cond.instantiable "java/lang/IllegalArgumentException" (6 : Nat)) ∈ lw_all := lw_g (lw_at lw_m4 58 rfl) rfl
theorem q1286 : (Jvm.Cond.castable "java/lang/IllegalArgumentException" "java/lang/IllegalArgumentException") ∈ lw_tbl := lw_at lw_m4 59 rfl
theorem q1287 : (Jvm.Cond.selects "java/lang/IllegalArgumentException" ({ cls := "java/lang/Throwable", name := "fillInStackTrace", desc := "(I)Ljava/lang/Throwable;" } : Jvm.MethodName) ({ cls := "java/lang/Throwable", name := "fillInStackTrace", desc := "(I)Ljava/lang/Throwable;" } : Jvm.MethodName)) ∈ lw_all := lw_g (lw_at lw_m4 60 rfl) rfl
theorem q1288 : (Jvm.Cond.lays "java/lang/IllegalArgumentException" "java/lang/Throwable" "cause" "Ljava/lang/Throwable;") ∈ lw_all := lw_g (lw_at lw_m4 61 rfl) rfl
theorem q1289 : (Jvm.Cond.lays "java/lang/IllegalArgumentException" "java/lang/Throwable" "stackTrace" "[Ljava/lang/StackTraceElement;") ∈ lw_all := lw_g (lw_at lw_m4 62 rfl) rfl
theorem q1290 : (Jvm.Cond.lays "java/lang/IllegalArgumentException" "java/lang/Throwable" "suppressedExceptions" "Ljava/util/List;") ∈ lw_all := lw_g (lw_at lw_m4 63 rfl) rfl
theorem q1291 : (Jvm.Cond.lays "java/lang/IllegalArgumentException" "java/lang/Throwable" "detailMessage" "Ljava/lang/String;") ∈ lw_all := lw_g (lw_at lw_m4 64 rfl) rfl
theorem q1292 : (Jvm.Cond.lays "java/lang/IllegalArgumentException" "java/lang/Throwable" "backtrace" "Ljava/lang/Object;") ∈ lw_all := lw_g (lw_at lw_m4 65 rfl) rfl
theorem q1294 : (Jvm.Cond.instanceMethod ({ cls := "java/lang/IllegalArgumentException", name := "<init>", desc := "()V" } : Jvm.MethodName)) ∈ lw_all := lw_g (lw_at lw_m4 67 rfl) rfl
theorem q1295 : (Jvm.Cond.code ({ cls := "java/lang/IllegalArgumentException", name := "<init>", desc := "()V" } : Jvm.MethodName) prog_51_method_1_code (1 : Nat) (Option.none : Option Jvm.ClassFile.FieldType)) ∈ lw_all := lw_g (lw_at lw_m4 68 rfl) rfl
theorem q1296 : (Jvm.Cond.methodLink "java/lang/IllegalArgumentException" (1 : Nat) ({ cls := "java/lang/RuntimeException", name := "<init>", desc := "()V" } : Jvm.MethodName)) ∈ lw_all := lw_g (lw_at lw_m4 69 rfl) rfl
theorem q1297 : (Jvm.Cond.lays "java/lang/IllegalArgumentException" "java/lang/Throwable" "depth" "I") ∈ lw_all := lw_g (lw_at lw_m4 70 rfl) rfl
theorem q1298 : (Jvm.Cond.superclass "java/lang/IllegalArgumentException" "java/lang/RuntimeException") ∈ lw_all := lw_g (lw_at lw_m4 71 rfl) rfl
theorem q6123 : (Jvm.Cond.castable "java/lang/IllegalArgumentException" "java/lang/Object") ∈ lw_tbl := lw_at lw_m24 96 rfl
theorem in_J6 : ∀ w ∈ wsJ60, w ∈ lw_all := lw_in wsJ60 [1288, 1289, 1290, 1291, 1292, 1297] (by decide +kernel) (by decide +kernel)

/-! java/lang/NegativeArraySizeException -/
set_option maxRecDepth 100000
def RJ7 : String := "java/lang/NegativeArraySizeException"
def TJ7 : u_T := fun k => match k with
  | 0 => ("java/lang/Throwable", "backtrace", "Ljava/lang/Object;", false)
  | 1 => ("java/lang/Throwable", "detailMessage", "Ljava/lang/String;", false)
  | 2 => ("java/lang/Throwable", "cause", "Ljava/lang/Throwable;", false)
  | 3 => ("java/lang/Throwable", "stackTrace", "[Ljava/lang/StackTraceElement;", false)
  | 4 => ("java/lang/Throwable", "depth", "I", false)
  | _ => ("java/lang/Throwable", "suppressedExceptions", "Ljava/util/List;", false)
def tyJ7 : Nat → FieldType := fun k => match k with
  | 0 => .object "java/lang/Object"
  | 1 => .object "java/lang/String"
  | 2 => .object "java/lang/Throwable"
  | 3 => .array (.object "java/lang/StackTraceElement")
  | 4 => .int
  | _ => .object "java/util/List"
abbrev wsJ70 : List Cond := u_ws RJ7 TJ7 6
theorem nmJ7 : ∀ a, a < 6 → ∀ b, b < 6 → a ≠ b → (TJ7 a).2.1 ≠ (TJ7 b).2.1 := by decide +kernel
theorem tyJ7_ok : ∀ k, k < 6 → parseFieldDescriptor (TJ7 k).2.2.1 = some (tyJ7 k) := by decide +kernel
abbrev cJ7_init : ByteArray := prog_57_method_2_code
def yJ7_init : MethodName := ⟨RJ7, "<init>", "(Ljava/lang/String;)V"⟩
def dkwJ7_init_0 : List UInt8 := [42, 43, 183, 0, 7, 177]
abbrev dktJ7_init_0 : List UInt8 := dkwJ7_init_0 ++ []
theorem dksJ7_init_0 : cJ7_init.data.toList.drop 0 = dktJ7_init_0 := by decide +kernel
theorem dJ7_init_0 : decode cJ7_init 0 = .ok (.aload_n 0, 1) := dk_42 (dk_at dksJ7_init_0 0 rfl rfl)
theorem dJ7_init_1 : decode cJ7_init 1 = .ok (.aload_n 1, 1) := dk_43 (dk_at dksJ7_init_0 1 rfl rfl)
theorem dJ7_init_2 : decode cJ7_init 2 = .ok (.invokespecial 7, 3) := dk_183 0 7 (dk_at dksJ7_init_0 2 rfl rfl)
theorem dJ7_init_5 : decode cJ7_init 5 = .ok (.return_, 1) := dk_177 (dk_at dksJ7_init_0 5 rfl rfl)
abbrev cJ7_init_2 : ByteArray := prog_57_method_1_code
def yJ7_init_2 : MethodName := ⟨RJ7, "<init>", "()V"⟩
theorem dJ7_init_2_0 : decode cJ7_init_2 0 = .ok (.aload_n 0, 1) := by decide +kernel
theorem dJ7_init_2_1 : decode cJ7_init_2 1 = .ok (.invokespecial 1, 3) := by decide +kernel
theorem dJ7_init_2_4 : decode cJ7_init_2 4 = .ok (.return_, 1) := by decide +kernel
theorem q529 : (Jvm.Cond.initialized "java/lang/NegativeArraySizeException") ∈ lw_all := lw_g (lw_at lw_m1 22 rfl) rfl
theorem q1190 : (Jvm.Cond.selects "java/lang/NegativeArraySizeException" ({ cls := "java/lang/Throwable", name := "fillInStackTrace", desc := "()Ljava/lang/Throwable;" } : Jvm.MethodName) ({ cls := "java/lang/Throwable", name := "fillInStackTrace", desc := "()Ljava/lang/Throwable;" } : Jvm.MethodName)) ∈ lw_all := lw_g (lw_at lw_m3 203 rfl) rfl
theorem q1304 : (Jvm.Cond.instantiable "java/lang/NegativeArraySizeException" (6 : Nat)) ∈ lw_all := lw_g (lw_at lw_m4 77 rfl) rfl
theorem q1305 : (Jvm.Cond.instanceMethod ({ cls := "java/lang/NegativeArraySizeException", name := "<init>", desc := "(Ljava/lang/String;)V" } : Jvm.MethodName)) ∈ lw_all := lw_g (lw_at lw_m4 78 rfl) rfl
theorem q1306 : (Jvm.Cond.code ({ cls := "java/lang/NegativeArraySizeException", name := "<init>", desc := "(Ljava/lang/String;)V" } : Jvm.MethodName) prog_57_method_2_code (2 : Nat) (Option.none : Option Jvm.ClassFile.FieldType)) ∈ lw_all := lw_g (lw_at lw_m4 79 rfl) rfl
theorem q1307 : (Jvm.Cond.methodLink "java/lang/NegativeArraySizeException" (7 : Nat) ({ cls := "java/lang/RuntimeException", name := "<init>", desc := "(Ljava/lang/String;)V" } : Jvm.MethodName)) ∈ lw_all := lw_g (lw_at lw_m4 80 rfl) rfl
theorem q1308 : (Jvm.Cond.lays "java/lang/NegativeArraySizeException" "java/lang/Throwable" "backtrace" "Ljava/lang/Object;") ∈ lw_all := lw_g (lw_at lw_m4 81 rfl) rfl
theorem q1309 : (Jvm.Cond.lays "java/lang/NegativeArraySizeException" "java/lang/Throwable" "detailMessage" "Ljava/lang/String;") ∈ lw_all := lw_g (lw_at lw_m4 82 rfl) rfl
theorem q1310 : (Jvm.Cond.lays "java/lang/NegativeArraySizeException" "java/lang/Throwable" "cause" "Ljava/lang/Throwable;") ∈ lw_all := lw_g (lw_at lw_m4 83 rfl) rfl
theorem q1311 : (Jvm.Cond.lays "java/lang/NegativeArraySizeException" "java/lang/Throwable" "stackTrace" "[Ljava/lang/StackTraceElement;") ∈ lw_all := lw_g (lw_at lw_m4 84 rfl) rfl
theorem q1312 : (Jvm.Cond.lays "java/lang/NegativeArraySizeException" "java/lang/Throwable" "depth" "I") ∈ lw_all := lw_g (lw_at lw_m4 85 rfl) rfl
theorem q1313 : (Jvm.Cond.lays "java/lang/NegativeArraySizeException" "java/lang/Throwable" "suppressedExceptions" "Ljava/util/List;") ∈ lw_all := lw_g (lw_at lw_m4 86 rfl) rfl
theorem q1314 : (Jvm.Cond.superclass "java/lang/NegativeArraySizeException" "java/lang/RuntimeException") ∈ lw_all := lw_g (lw_at lw_m4 87 rfl) rfl
theorem q1315 : (Jvm.Cond.castable "java/lang/NegativeArraySizeException" "java/lang/NegativeArraySizeException") ∈ lw_tbl := lw_at lw_m4 88 rfl
theorem q1316 : (Jvm.Cond.selects "java/lang/NegativeArraySizeException" ({ cls := "java/lang/Throwable", name := "fillInStackTrace", desc := "(I)Ljava/lang/Throwable;" } : Jvm.MethodName) ({ cls := "java/lang/Throwable", name := "fillInStackTrace", desc := "(I)Ljava/lang/Throwable;" } : Jvm.MethodName)) ∈ lw_all := lw_g (lw_at lw_m4 89 rfl) rfl
theorem q1326 : (Jvm.Cond.instanceMethod ({ cls := "java/lang/NegativeArraySizeException", name := "<init>", desc := "()V" } : Jvm.MethodName)) ∈ lw_all := lw_g (lw_at lw_m4 99 rfl) rfl
theorem q1327 : (Jvm.Cond.code ({ cls := "java/lang/NegativeArraySizeException", name := "<init>", desc := "()V" } : Jvm.MethodName) prog_57_method_1_code (1 : Nat) (Option.none : Option Jvm.ClassFile.FieldType)) ∈ lw_all := lw_g (lw_at lw_m4 100 rfl) rfl
theorem q1328 : (Jvm.Cond.methodLink "java/lang/NegativeArraySizeException" (1 : Nat) ({ cls := "java/lang/RuntimeException", name := "<init>", desc := "()V" } : Jvm.MethodName)) ∈ lw_all := lw_g (lw_at lw_m4 101 rfl) rfl
theorem q6124 : (Jvm.Cond.castable "java/lang/NegativeArraySizeException" "java/lang/Object") ∈ lw_tbl := lw_at lw_m24 97 rfl
theorem in_J7 : ∀ w ∈ wsJ70, w ∈ lw_all := lw_in wsJ70 [1308, 1309, 1310, 1311, 1312, 1313] (by decide +kernel) (by decide +kernel)

/-! java/lang/IllegalStateException -/
set_option maxRecDepth 100000
def RJ8 : String := "java/lang/IllegalStateException"
def TJ8 : u_T := fun k => match k with
  | 0 => ("java/lang/Throwable", "cause", "Ljava/lang/Throwable;", false)
  | 1 => ("java/lang/Throwable", "stackTrace", "[Ljava/lang/StackTraceElement;", false)
  | 2 => ("java/lang/Throwable", "suppressedExceptions", "Ljava/util/List;", false)
  | 3 => ("java/lang/Throwable", "detailMessage", "Ljava/lang/String;", false)
  | 4 => ("java/lang/Throwable", "backtrace", "Ljava/lang/Object;", false)
  | _ => ("java/lang/Throwable", "depth", "I", false)
def tyJ8 : Nat → FieldType := fun k => match k with
  | 0 => .object "java/lang/Throwable"
  | 1 => .array (.object "java/lang/StackTraceElement")
  | 2 => .object "java/util/List"
  | 3 => .object "java/lang/String"
  | 4 => .object "java/lang/Object"
  | _ => .int
abbrev wsJ80 : List Cond := u_ws RJ8 TJ8 6
theorem nmJ8 : ∀ a, a < 6 → ∀ b, b < 6 → a ≠ b → (TJ8 a).2.1 ≠ (TJ8 b).2.1 := by decide +kernel
theorem tyJ8_ok : ∀ k, k < 6 → parseFieldDescriptor (TJ8 k).2.2.1 = some (tyJ8 k) := by decide +kernel
abbrev cJ8_init : ByteArray := prog_52_method_1_code
def yJ8_init : MethodName := ⟨RJ8, "<init>", "()V"⟩
theorem dJ8_init_0 : decode cJ8_init 0 = .ok (.aload_n 0, 1) := by decide +kernel
theorem dJ8_init_1 : decode cJ8_init 1 = .ok (.invokespecial 1, 3) := by decide +kernel
theorem dJ8_init_4 : decode cJ8_init 4 = .ok (.return_, 1) := by decide +kernel
theorem q530 : (Jvm.Cond.initialized "java/lang/IllegalStateException") ∈ lw_all := lw_g (lw_at lw_m1 23 rfl) rfl
theorem q1188 : (Jvm.Cond.selects "java/lang/IllegalStateException" ({ cls := "java/lang/Throwable", name := "fillInStackTrace", desc := "()Ljava/lang/Throwable;" } : Jvm.MethodName) ({ cls := "java/lang/Throwable", name := "fillInStackTrace", desc := "()Ljava/lang/Throwable;" } : Jvm.MethodName)) ∈ lw_all := lw_g (lw_at lw_m3 201 rfl) rfl
theorem q1340 : (Jvm.Cond.instantiable "java/lang/IllegalStateException" (6 : Nat)) ∈ lw_all := lw_g (lw_at lw_m4 113 rfl) rfl
theorem q1341 : (Jvm.Cond.castable "java/lang/IllegalStateException" "java/lang/IllegalStateException") ∈ lw_tbl := lw_at lw_m4 114 rfl
theorem q1342 : (Jvm.Cond.selects "java/lang/IllegalStateException" ({ cls := "java/lang/Throwable", name := "fillInStackTrace", desc := "(I)Ljava/lang/Throwable;" } : Jvm.MethodName) ({ cls := "java/lang/Throwable", name := "fillInStackTrace", desc := "(I)Ljava/lang/Throwable;" } : Jvm.MethodName)) ∈ lw_all := lw_g (lw_at lw_m4 115 rfl) rfl
theorem q1343 : (Jvm.Cond.lays "java/lang/IllegalStateException" "java/lang/Throwable" "cause" "Ljava/lang/Throwable;") ∈ lw_all := lw_g (lw_at lw_m4 116 rfl) rfl
theorem q1344 : (Jvm.Cond.lays "java/lang/IllegalStateException" "java/lang/Throwable" "stackTrace" "[Ljava/lang/StackTraceElement;") ∈ lw_all := lw_g (lw_at lw_m4 117 rfl) rfl
theorem q1345 : (Jvm.Cond.lays "java/lang/IllegalStateException" "java/lang/Throwable" "suppressedExceptions" "Ljava/util/List;") ∈ lw_all := lw_g (lw_at lw_m4 118 rfl) rfl
theorem q1346 : (Jvm.Cond.lays "java/lang/IllegalStateException" "java/lang/Throwable" "detailMessage" "Ljava/lang/String;") ∈ lw_all := lw_g (lw_at lw_m4 119 rfl) rfl
theorem q1347 : (Jvm.Cond.lays "java/lang/IllegalStateException" "java/lang/Throwable" "backtrace" "Ljava/lang/Object;") ∈ lw_all := lw_g (lw_at lw_m4 120 rfl) rfl
theorem q1349 : (Jvm.Cond.instanceMethod ({ cls := "java/lang/IllegalStateException", name := "<init>", desc := "()V" } : Jvm.MethodName)) ∈ lw_all := lw_g (lw_at lw_m4 122 rfl) rfl
theorem q1350 : (Jvm.Cond.code ({ cls := "java/lang/IllegalStateException", name := "<init>", desc := "()V" } : Jvm.MethodName) prog_52_method_1_code (1 : Nat) (Option.none : Option Jvm.ClassFile.FieldType)) ∈ lw_all := lw_g (lw_at lw_m4 123 rfl) rfl
theorem q1351 : (Jvm.Cond.methodLink "java/lang/IllegalStateException" (1 : Nat) ({ cls := "java/lang/RuntimeException", name := "<init>", desc := "()V" } : Jvm.MethodName)) ∈ lw_all := lw_g (lw_at lw_m4 124 rfl) rfl
theorem q1352 : (Jvm.Cond.lays "java/lang/IllegalStateException" "java/lang/Throwable" "depth" "I") ∈ lw_all := lw_g (lw_at lw_m4 125 rfl) rfl
theorem q1353 : (Jvm.Cond.superclass "java/lang/IllegalStateException" "java/lang/RuntimeException") ∈ lw_all := lw_g (lw_at lw_m4 126 rfl) rfl
theorem q6125 : (Jvm.Cond.castable "java/lang/IllegalStateException" "java/lang/Object") ∈ lw_tbl := lw_at lw_m24 98 rfl
theorem in_J8 : ∀ w ∈ wsJ80, w ∈ lw_all := lw_in wsJ80 [1343, 1344, 1345, 1346, 1347, 1352] (by decide +kernel) (by decide +kernel)

/-! java/util/NoSuchElementException -/
set_option maxRecDepth 100000
def RJ9 : String := "java/util/NoSuchElementException"
def TJ9 : u_T := fun k => match k with
  | 0 => ("java/lang/Throwable", "cause", "Ljava/lang/Throwable;", false)
  | 1 => ("java/lang/Throwable", "stackTrace", "[Ljava/lang/StackTraceElement;", false)
  | 2 => ("java/lang/Throwable", "suppressedExceptions", "Ljava/util/List;", false)
  | 3 => ("java/lang/Throwable", "detailMessage", "Ljava/lang/String;", false)
  | 4 => ("java/lang/Throwable", "backtrace", "Ljava/lang/Object;", false)
  | _ => ("java/lang/Throwable", "depth", "I", false)
def tyJ9 : Nat → FieldType := fun k => match k with
  | 0 => .object "java/lang/Throwable"
  | 1 => .array (.object "java/lang/StackTraceElement")
  | 2 => .object "java/util/List"
  | 3 => .object "java/lang/String"
  | 4 => .object "java/lang/Object"
  | _ => .int
abbrev wsJ90 : List Cond := u_ws RJ9 TJ9 6
theorem nmJ9 : ∀ a, a < 6 → ∀ b, b < 6 → a ≠ b → (TJ9 a).2.1 ≠ (TJ9 b).2.1 := by decide +kernel
theorem tyJ9_ok : ∀ k, k < 6 → parseFieldDescriptor (TJ9 k).2.2.1 = some (tyJ9 k) := by decide +kernel
abbrev cJ9_init : ByteArray := prog_67_method_1_code
def yJ9_init : MethodName := ⟨RJ9, "<init>", "()V"⟩
theorem dJ9_init_0 : decode cJ9_init 0 = .ok (.aload_n 0, 1) := by decide +kernel
theorem dJ9_init_1 : decode cJ9_init 1 = .ok (.invokespecial 1, 3) := by decide +kernel
theorem dJ9_init_4 : decode cJ9_init 4 = .ok (.return_, 1) := by decide +kernel
theorem q552 : (Jvm.Cond.initialized "java/util/NoSuchElementException") ∈ lw_all := lw_g (lw_at lw_m1 45 rfl) rfl
theorem q1192 : (Jvm.Cond.selects "java/util/NoSuchElementException" ({ cls := "java/lang/Throwable", name := "fillInStackTrace", desc := "()Ljava/lang/Throwable;" } : Jvm.MethodName) ({ cls := "java/lang/Throwable", name := "fillInStackTrace", desc := "()Ljava/lang/Throwable;" } : Jvm.MethodName)) ∈ lw_all := lw_g (lw_at lw_m3 205 rfl) rfl
theorem q1949 : (Jvm.Cond.instantiable "java/util/NoSuchElementException" (6 : Nat)) ∈ lw_all := lw_g (lw_at lw_m7 2 rfl) rfl
theorem q1950 : (Jvm.Cond.castable "java/util/NoSuchElementException" "java/util/NoSuchElementException") ∈ lw_tbl := lw_at lw_m7 3 rfl
theorem q1951 : (Jvm.Cond.selects "java/util/NoSuchElementException" ({ cls := "java/lang/Throwable", name := "fillInStackTrace", desc := "(I)Ljava/lang/Throwable;" } : Jvm.MethodName) ({ cls := "java/lang/Throwable", name := "fillInStackTrace", desc := "(I)Ljava/lang/Throwable;" } : Jvm.MethodName)) ∈ lw_all := lw_g (lw_at lw_m7 4 rfl) rfl
theorem q1952 : (Jvm.Cond.lays "java/util/NoSuchElementException" "java/lang/Throwable" "cause" "Ljava/lang/Throwable;") ∈ lw_all := lw_g (lw_at lw_m7 5 rfl) rfl
theorem q1953 : (Jvm.Cond.lays "java/util/NoSuchElementException" "java/lang/Throwable" "stackTrace" "[Ljava/lang/StackTraceElement;") ∈ lw_all := lw_g (lw_at lw_m7 6 rfl) rfl
theorem q1954 : (Jvm.Cond.lays "java/util/NoSuchElementException" "java/lang/Throwable" "suppressedExceptions" "Ljava/util/List;") ∈ lw_all := lw_g (lw_at lw_m7 7 rfl) rfl
theorem q1955 : (Jvm.Cond.lays "java/util/NoSuchElementException" "java/lang/Throwable" "detailMessage" "Ljava/lang/String;") ∈ lw_all := lw_g (lw_at lw_m7 8 rfl) rfl
theorem q1956 : (Jvm.Cond.lays "java/util/NoSuchElementException" "java/lang/Throwable" "backtrace" "Ljava/lang/Object;") ∈ lw_all := lw_g (lw_at lw_m7 9 rfl) rfl
theorem q1958 : (Jvm.Cond.instanceMethod ({ cls := "java/util/NoSuchElementException", name := "<init>", desc := "()V" } : Jvm.MethodName)) ∈ lw_all := lw_g (lw_at lw_m7 11 rfl) rfl
theorem q1959 : (Jvm.Cond.code ({ cls := "java/util/NoSuchElementException", name := "<init>", desc := "()V" } : Jvm.MethodName) prog_67_method_1_code (1 : Nat) (Option.none : Option Jvm.ClassFile.FieldType)) ∈ lw_all := lw_g (lw_at lw_m7 12 rfl) rfl
theorem q1960 : (Jvm.Cond.methodLink "java/util/NoSuchElementException" (1 : Nat) ({ cls := "java/lang/RuntimeException", name := "<init>", desc := "()V" } : Jvm.MethodName)) ∈ lw_all := lw_g (lw_at lw_m7 13 rfl) rfl
theorem q1961 : (Jvm.Cond.lays "java/util/NoSuchElementException" "java/lang/Throwable" "depth" "I") ∈ lw_all := lw_g (lw_at lw_m7 14 rfl) rfl
theorem q1962 : (Jvm.Cond.superclass "java/util/NoSuchElementException" "java/lang/RuntimeException") ∈ lw_all := lw_g (lw_at lw_m7 15 rfl) rfl
theorem q6144 : (Jvm.Cond.castable "java/util/NoSuchElementException" "java/lang/Object") ∈ lw_tbl := lw_at lw_m24 117 rfl
theorem in_J9 : ∀ w ∈ wsJ90, w ∈ lw_all := lw_in wsJ90 [1952, 1953, 1954, 1955, 1956, 1961] (by decide +kernel) (by decide +kernel)

/-! java/lang/ClassCastException -/
set_option maxRecDepth 100000
def RJ10 : String := "java/lang/ClassCastException"
def TJ10 : u_T := fun k => match k with
  | 0 => ("java/lang/Throwable", "backtrace", "Ljava/lang/Object;", false)
  | 1 => ("java/lang/Throwable", "detailMessage", "Ljava/lang/String;", false)
  | 2 => ("java/lang/Throwable", "cause", "Ljava/lang/Throwable;", false)
  | 3 => ("java/lang/Throwable", "stackTrace", "[Ljava/lang/StackTraceElement;", false)
  | 4 => ("java/lang/Throwable", "depth", "I", false)
  | _ => ("java/lang/Throwable", "suppressedExceptions", "Ljava/util/List;", false)
def tyJ10 : Nat → FieldType := fun k => match k with
  | 0 => .object "java/lang/Object"
  | 1 => .object "java/lang/String"
  | 2 => .object "java/lang/Throwable"
  | 3 => .array (.object "java/lang/StackTraceElement")
  | 4 => .int
  | _ => .object "java/util/List"
abbrev wsJ100 : List Cond := u_ws RJ10 TJ10 6
theorem nmJ10 : ∀ a, a < 6 → ∀ b, b < 6 → a ≠ b → (TJ10 a).2.1 ≠ (TJ10 b).2.1 := by decide +kernel
theorem tyJ10_ok : ∀ k, k < 6 → parseFieldDescriptor (TJ10 k).2.2.1 = some (tyJ10 k) := by decide +kernel
abbrev cJ10_init : ByteArray := prog_48_method_2_code
def yJ10_init : MethodName := ⟨RJ10, "<init>", "(Ljava/lang/String;)V"⟩
def dkwJ10_init_0 : List UInt8 := [42, 43, 183, 0, 7, 177]
abbrev dktJ10_init_0 : List UInt8 := dkwJ10_init_0 ++ []
theorem dksJ10_init_0 : cJ10_init.data.toList.drop 0 = dktJ10_init_0 := by decide +kernel
theorem dJ10_init_0 : decode cJ10_init 0 = .ok (.aload_n 0, 1) := dk_42 (dk_at dksJ10_init_0 0 rfl rfl)
theorem dJ10_init_1 : decode cJ10_init 1 = .ok (.aload_n 1, 1) := dk_43 (dk_at dksJ10_init_0 1 rfl rfl)
theorem dJ10_init_2 : decode cJ10_init 2 = .ok (.invokespecial 7, 3) := dk_183 0 7 (dk_at dksJ10_init_0 2 rfl rfl)
theorem dJ10_init_5 : decode cJ10_init 5 = .ok (.return_, 1) := dk_177 (dk_at dksJ10_init_0 5 rfl rfl)
abbrev cJ10_init_2 : ByteArray := prog_48_method_1_code
def yJ10_init_2 : MethodName := ⟨RJ10, "<init>", "()V"⟩
theorem dJ10_init_2_0 : decode cJ10_init_2 0 = .ok (.aload_n 0, 1) := by decide +kernel
theorem dJ10_init_2_1 : decode cJ10_init_2 1 = .ok (.invokespecial 1, 3) := by decide +kernel
theorem dJ10_init_2_4 : decode cJ10_init_2 4 = .ok (.return_, 1) := by decide +kernel
theorem q553 : (Jvm.Cond.initialized "java/lang/ClassCastException") ∈ lw_all := lw_g (lw_at lw_m1 46 rfl) rfl
theorem q1186 : (Jvm.Cond.selects "java/lang/ClassCastException" ({ cls := "java/lang/Throwable", name := "fillInStackTrace", desc := "()Ljava/lang/Throwable;" } : Jvm.MethodName) ({ cls := "java/lang/Throwable", name := "fillInStackTrace", desc := "()Ljava/lang/Throwable;" } : Jvm.MethodName)) ∈ lw_all := lw_g (lw_at lw_m3 199 rfl) rfl
theorem q1971 : (Jvm.Cond.instantiable "java/lang/ClassCastException" (6 : Nat)) ∈ lw_all := lw_g (lw_at lw_m7 24 rfl) rfl
theorem q1972 : (Jvm.Cond.instanceMethod ({ cls := "java/lang/ClassCastException", name := "<init>", desc := "(Ljava/lang/String;)V" } : Jvm.MethodName)) ∈ lw_all := lw_g (lw_at lw_m7 25 rfl) rfl
theorem q1973 : (Jvm.Cond.code ({ cls := "java/lang/ClassCastException", name := "<init>", desc := "(Ljava/lang/String;)V" } : Jvm.MethodName) prog_48_method_2_code (2 : Nat) (Option.none : Option Jvm.ClassFile.FieldType)) ∈ lw_all := lw_g (lw_at lw_m7 26 rfl) rfl
theorem q1974 : (Jvm.Cond.methodLink "java/lang/ClassCastException" (7 : Nat) ({ cls := "java/lang/RuntimeException", name := "<init>", desc := "(Ljava/lang/String;)V" } : Jvm.MethodName)) ∈ lw_all := lw_g (lw_at lw_m7 27 rfl) rfl
theorem q1975 : (Jvm.Cond.lays "java/lang/ClassCastException" "java/lang/Throwable" "backtrace" "Ljava/lang/Object;") ∈ lw_all := lw_g (lw_at lw_m7 28 rfl) rfl
theorem q1976 : (Jvm.Cond.lays "java/lang/ClassCastException" "java/lang/Throwable" "detailMessage" "Ljava/lang/String;") ∈ lw_all := lw_g (lw_at lw_m7 29 rfl) rfl
theorem q1977 : (Jvm.Cond.lays "java/lang/ClassCastException" "java/lang/Throwable" "cause" "Ljava/lang/Throwable;") ∈ lw_all := lw_g (lw_at lw_m7 30 rfl) rfl
theorem q1978 : (Jvm.Cond.lays "java/lang/ClassCastException" "java/lang/Throwable" "stackTrace" "[Ljava/lang/StackTraceElement;") ∈ lw_all := lw_g (lw_at lw_m7 31 rfl) rfl
theorem q1979 : (Jvm.Cond.lays "java/lang/ClassCastException" "java/lang/Throwable" "depth" "I") ∈ lw_all := lw_g (lw_at lw_m7 32 rfl) rfl
theorem q1980 : (Jvm.Cond.lays "java/lang/ClassCastException" "java/lang/Throwable" "suppressedExceptions" "Ljava/util/List;") ∈ lw_all := lw_g (lw_at lw_m7 33 rfl) rfl
theorem q1981 : (Jvm.Cond.superclass "java/lang/ClassCastException" "java/lang/RuntimeException") ∈ lw_all := lw_g (lw_at lw_m7 34 rfl) rfl
theorem q1982 : (Jvm.Cond.castable "java/lang/ClassCastException" "java/lang/ClassCastException") ∈ lw_tbl := lw_at lw_m7 35 rfl
theorem q1983 : (Jvm.Cond.selects "java/lang/ClassCastException" ({ cls := "java/lang/Throwable", name := "fillInStackTrace", desc := "(I)Ljava/lang/Throwable;" } : Jvm.MethodName) ({ cls := "java/lang/Throwable", name := "fillInStackTrace", desc := "(I)Ljava/lang/Throwable;" } : Jvm.MethodName)) ∈ lw_all := lw_g (lw_at lw_m7 36 rfl) rfl
theorem q2006 : (Jvm.Cond.instanceMethod ({ cls := "java/lang/ClassCastException", name := "<init>", desc := "()V" } : Jvm.MethodName)) ∈ lw_all := lw_g (lw_at lw_m7 59 rfl) rfl
theorem q2007 : (Jvm.Cond.code ({ cls := "java/lang/ClassCastException", name := "<init>", desc := "()V" } : Jvm.MethodName) prog_48_method_1_code (1 : Nat) (Option.none : Option Jvm.ClassFile.FieldType)) ∈ lw_all := lw_g (lw_at lw_m7 60 rfl) rfl
theorem q2008 : (Jvm.Cond.methodLink "java/lang/ClassCastException" (1 : Nat) ({ cls := "java/lang/RuntimeException", name := "<init>", desc := "()V" } : Jvm.MethodName)) ∈ lw_all := lw_g (lw_at lw_m7 61 rfl) rfl
theorem q6145 : (Jvm.Cond.castable "java/lang/ClassCastException" "java/lang/Object") ∈ lw_tbl := lw_at lw_m24 118 rfl
theorem in_J10 : ∀ w ∈ wsJ100, w ∈ lw_all := lw_in wsJ100 [1975, 1976, 1977, 1978, 1979, 1980] (by decide +kernel) (by decide +kernel)

/-! java/lang/UnsupportedOperationException -/
set_option maxRecDepth 100000
def RJ11 : String := "java/lang/UnsupportedOperationException"
def TJ11 : u_T := fun k => match k with
  | 0 => ("java/lang/Throwable", "cause", "Ljava/lang/Throwable;", false)
  | 1 => ("java/lang/Throwable", "stackTrace", "[Ljava/lang/StackTraceElement;", false)
  | 2 => ("java/lang/Throwable", "suppressedExceptions", "Ljava/util/List;", false)
  | 3 => ("java/lang/Throwable", "detailMessage", "Ljava/lang/String;", false)
  | 4 => ("java/lang/Throwable", "backtrace", "Ljava/lang/Object;", false)
  | _ => ("java/lang/Throwable", "depth", "I", false)
def tyJ11 : Nat → FieldType := fun k => match k with
  | 0 => .object "java/lang/Throwable"
  | 1 => .array (.object "java/lang/StackTraceElement")
  | 2 => .object "java/util/List"
  | 3 => .object "java/lang/String"
  | 4 => .object "java/lang/Object"
  | _ => .int
abbrev wsJ110 : List Cond := u_ws RJ11 TJ11 6
theorem nmJ11 : ∀ a, a < 6 → ∀ b, b < 6 → a ≠ b → (TJ11 a).2.1 ≠ (TJ11 b).2.1 := by decide +kernel
theorem tyJ11_ok : ∀ k, k < 6 → parseFieldDescriptor (TJ11 k).2.2.1 = some (tyJ11 k) := by decide +kernel
abbrev cJ11_init : ByteArray := prog_64_method_1_code
def yJ11_init : MethodName := ⟨RJ11, "<init>", "()V"⟩
theorem dJ11_init_0 : decode cJ11_init 0 = .ok (.aload_n 0, 1) := by decide +kernel
theorem dJ11_init_1 : decode cJ11_init 1 = .ok (.invokespecial 1, 3) := by decide +kernel
theorem dJ11_init_4 : decode cJ11_init 4 = .ok (.return_, 1) := by decide +kernel
theorem q555 : (Jvm.Cond.initialized "java/lang/UnsupportedOperationException") ∈ lw_all := lw_g (lw_at lw_m1 48 rfl) rfl
theorem q1191 : (Jvm.Cond.selects "java/lang/UnsupportedOperationException" ({ cls := "java/lang/Throwable", name := "fillInStackTrace", desc := "()Ljava/lang/Throwable;" } : Jvm.MethodName) ({ cls := "java/lang/Throwable", name := "fillInStackTrace", desc := "()Ljava/lang/Throwable;" } : Jvm.MethodName)) ∈ lw_all := lw_g (lw_at lw_m3 204 rfl) rfl
theorem q2173 : (Jvm.Cond.instantiable "java/lang/UnsupportedOperationException" (6 : Nat)) ∈ lw_all := lw_g (lw_at lw_m7 226 rfl) rfl
theorem q2174 : (Jvm.Cond.castable "java/lang/UnsupportedOperationException" "java/lang/UnsupportedOperationException") ∈ lw_tbl := lw_at lw_m7 227 rfl
theorem q2175 : (Jvm.Cond.selects "java/lang/UnsupportedOperationException" ({ cls := "java/lang/Throwable", name := "fillInStackTrace", desc := "(I)Ljava/lang/Throwable;" } : Jvm.MethodName) ({ cls := "java/lang/Throwable", name := "fillInStackTrace", desc := "(I)Ljava/lang/Throwable;" } : Jvm.MethodName)) ∈ lw_all := lw_g (lw_at lw_m7 228 rfl) rfl
theorem q2176 : (Jvm.Cond.lays "java/lang/UnsupportedOperationException" "java/lang/Throwable" "cause" "Ljava/lang/Throwable;") ∈ lw_all := lw_g (lw_at lw_m7 229 rfl) rfl
theorem q2177 : (Jvm.Cond.lays "java/lang/UnsupportedOperationException" "java/lang/Throwable" "stackTrace" "[Ljava/lang/StackTraceElement;") ∈ lw_all := lw_g (lw_at lw_m7 230 rfl) rfl
theorem q2178 : (Jvm.Cond.lays "java/lang/UnsupportedOperationException" "java/lang/Throwable" "suppressedExceptions" "Ljava/util/List;") ∈ lw_all := lw_g (lw_at lw_m7 231 rfl) rfl
theorem q2179 : (Jvm.Cond.lays "java/lang/UnsupportedOperationException" "java/lang/Throwable" "detailMessage" "Ljava/lang/String;") ∈ lw_all := lw_g (lw_at lw_m7 232 rfl) rfl
theorem q2180 : (Jvm.Cond.lays "java/lang/UnsupportedOperationException" "java/lang/Throwable" "backtrace" "Ljava/lang/Object;") ∈ lw_all := lw_g (lw_at lw_m7 233 rfl) rfl
theorem q2182 : (Jvm.Cond.instanceMethod ({ cls := "java/lang/UnsupportedOperationException", name := "<init>", desc := "()V" } : Jvm.MethodName)) ∈ lw_all := lw_g (lw_at lw_m7 235 rfl) rfl
theorem q2183 : (Jvm.Cond.code ({ cls := "java/lang/UnsupportedOperationException", name := "<init>", desc := "()V" } : Jvm.MethodName) prog_64_method_1_code (1 : Nat) (Option.none : Option Jvm.ClassFile.FieldType)) ∈ lw_all := lw_g (lw_at lw_m7 236 rfl) rfl
theorem q2184 : (Jvm.Cond.methodLink "java/lang/UnsupportedOperationException" (1 : Nat) ({ cls := "java/lang/RuntimeException", name := "<init>", desc := "()V" } : Jvm.MethodName)) ∈ lw_all := lw_g (lw_at lw_m7 237 rfl) rfl
theorem q2185 : (Jvm.Cond.lays "java/lang/UnsupportedOperationException" "java/lang/Throwable" "depth" "I") ∈ lw_all := lw_g (lw_at lw_m7 238 rfl) rfl
theorem q2186 : (Jvm.Cond.superclass "java/lang/UnsupportedOperationException" "java/lang/RuntimeException") ∈ lw_all := lw_g (lw_at lw_m7 239 rfl) rfl
theorem q6146 : (Jvm.Cond.castable "java/lang/UnsupportedOperationException" "java/lang/Object") ∈ lw_tbl := lw_at lw_m24 119 rfl
theorem in_J11 : ∀ w ∈ wsJ110, w ∈ lw_all := lw_in wsJ110 [2176, 2177, 2178, 2179, 2180, 2185] (by decide +kernel) (by decide +kernel)

/-! java/lang/Math -/
set_option maxRecDepth 100000
def RJ12 : String := "java/lang/Math"
abbrev cJ12_min : ByteArray := prog_56_method_69_code
def yJ12_min : MethodName := ⟨RJ12, "min", "(II)I"⟩
def dkwJ12_min_0 : List UInt8 := [26, 27, 163, 0, 7, 26, 167, 0, 4, 27, 172]
abbrev dktJ12_min_0 : List UInt8 := dkwJ12_min_0 ++ []
theorem dksJ12_min_0 : cJ12_min.data.toList.drop 0 = dktJ12_min_0 := by decide +kernel
theorem dJ12_min_0 : decode cJ12_min 0 = .ok (.iload_n 0, 1) := dk_26 (dk_at dksJ12_min_0 0 rfl rfl)
theorem dJ12_min_1 : decode cJ12_min 1 = .ok (.iload_n 1, 1) := dk_27 (dk_at dksJ12_min_0 1 rfl rfl)
theorem dJ12_min_2 : decode cJ12_min 2 = .ok (.if_icmp .gt 7, 3) := dk_163 0 7 (dk_at dksJ12_min_0 2 rfl rfl)
theorem dJ12_min_5 : decode cJ12_min 5 = .ok (.iload_n 0, 1) := dk_26 (dk_at dksJ12_min_0 5 rfl rfl)
theorem dJ12_min_6 : decode cJ12_min 6 = .ok (.goto 4, 3) := dk_167 0 4 (dk_at dksJ12_min_0 6 rfl rfl)
theorem dJ12_min_9 : decode cJ12_min 9 = .ok (.iload_n 1, 1) := dk_27 (dk_at dksJ12_min_0 9 rfl rfl)
theorem dJ12_min_10 : decode cJ12_min 10 = .ok (.ireturn, 1) := dk_172 (dk_at dksJ12_min_0 10 rfl rfl)
abbrev cJ12_max : ByteArray := prog_56_method_65_code
def yJ12_max : MethodName := ⟨RJ12, "max", "(II)I"⟩
def dkwJ12_max_0 : List UInt8 := [26, 27, 161, 0, 7, 26, 167, 0, 4, 27, 172]
abbrev dktJ12_max_0 : List UInt8 := dkwJ12_max_0 ++ []
theorem dksJ12_max_0 : cJ12_max.data.toList.drop 0 = dktJ12_max_0 := by decide +kernel
theorem dJ12_max_0 : decode cJ12_max 0 = .ok (.iload_n 0, 1) := dk_26 (dk_at dksJ12_max_0 0 rfl rfl)
theorem dJ12_max_1 : decode cJ12_max 1 = .ok (.iload_n 1, 1) := dk_27 (dk_at dksJ12_max_0 1 rfl rfl)
theorem dJ12_max_2 : decode cJ12_max 2 = .ok (.if_icmp .lt 7, 3) := dk_161 0 7 (dk_at dksJ12_max_0 2 rfl rfl)
theorem dJ12_max_5 : decode cJ12_max 5 = .ok (.iload_n 0, 1) := dk_26 (dk_at dksJ12_max_0 5 rfl rfl)
theorem dJ12_max_6 : decode cJ12_max 6 = .ok (.goto 4, 3) := dk_167 0 4 (dk_at dksJ12_max_0 6 rfl rfl)
theorem dJ12_max_9 : decode cJ12_max 9 = .ok (.iload_n 1, 1) := dk_27 (dk_at dksJ12_max_0 9 rfl rfl)
theorem dJ12_max_10 : decode cJ12_max 10 = .ok (.ireturn, 1) := dk_172 (dk_at dksJ12_max_0 10 rfl rfl)
abbrev cJ12_abs : ByteArray := prog_56_method_61_code
def yJ12_abs : MethodName := ⟨RJ12, "abs", "(J)J"⟩
def dkwJ12_abs_0 : List UInt8 := [30, 9, 148, 156, 0, 8, 30, 117, 167, 0, 4, 30, 173]
abbrev dktJ12_abs_0 : List UInt8 := dkwJ12_abs_0 ++ []
theorem dksJ12_abs_0 : cJ12_abs.data.toList.drop 0 = dktJ12_abs_0 := by decide +kernel
theorem dJ12_abs_0 : decode cJ12_abs 0 = .ok (.lload_n 0, 1) := dk_30 (dk_at dksJ12_abs_0 0 rfl rfl)
theorem dJ12_abs_1 : decode cJ12_abs 1 = .ok (.lconst 0, 1) := dk_9 (dk_at dksJ12_abs_0 1 rfl rfl)
theorem dJ12_abs_2 : decode cJ12_abs 2 = .ok (.lcmp, 1) := dk_148 (dk_at dksJ12_abs_0 2 rfl rfl)
theorem dJ12_abs_3 : decode cJ12_abs 3 = .ok (.ifCond .ge 8, 3) := dk_156 0 8 (dk_at dksJ12_abs_0 3 rfl rfl)
theorem dJ12_abs_6 : decode cJ12_abs 6 = .ok (.lload_n 0, 1) := dk_30 (dk_at dksJ12_abs_0 6 rfl rfl)
theorem dJ12_abs_7 : decode cJ12_abs 7 = .ok (.lneg, 1) := dk_117 (dk_at dksJ12_abs_0 7 rfl rfl)
theorem dJ12_abs_8 : decode cJ12_abs 8 = .ok (.goto 4, 3) := dk_167 0 4 (dk_at dksJ12_abs_0 8 rfl rfl)
theorem dJ12_abs_11 : decode cJ12_abs 11 = .ok (.lload_n 0, 1) := dk_30 (dk_at dksJ12_abs_0 11 rfl rfl)
theorem dJ12_abs_12 : decode cJ12_abs 12 = .ok (.lreturn, 1) := dk_173 (dk_at dksJ12_abs_0 12 rfl rfl)
abbrev cJ12_floorMod : ByteArray := prog_56_method_50_code
def yJ12_floorMod : MethodName := ⟨RJ12, "floorMod", "(II)I"⟩
def dkwJ12_floorMod_0 : List UInt8 := [26, 27, 112, 61, 26, 27, 130, 156, 0, 11, 28, 153, 0, 7, 28, 27, 96, 172, 28, 172]
abbrev dktJ12_floorMod_0 : List UInt8 := dkwJ12_floorMod_0 ++ []
theorem dksJ12_floorMod_0 : cJ12_floorMod.data.toList.drop 0 = dktJ12_floorMod_0 := by decide +kernel
theorem dJ12_floorMod_0 : decode cJ12_floorMod 0 = .ok (.iload_n 0, 1) := dk_26 (dk_at dksJ12_floorMod_0 0 rfl rfl)
theorem dJ12_floorMod_1 : decode cJ12_floorMod 1 = .ok (.iload_n 1, 1) := dk_27 (dk_at dksJ12_floorMod_0 1 rfl rfl)
theorem dJ12_floorMod_2 : decode cJ12_floorMod 2 = .ok (.irem, 1) := dk_112 (dk_at dksJ12_floorMod_0 2 rfl rfl)
theorem dJ12_floorMod_3 : decode cJ12_floorMod 3 = .ok (.istore_n 2, 1) := dk_61 (dk_at dksJ12_floorMod_0 3 rfl rfl)
theorem dJ12_floorMod_4 : decode cJ12_floorMod 4 = .ok (.iload_n 0, 1) := dk_26 (dk_at dksJ12_floorMod_0 4 rfl rfl)
theorem dJ12_floorMod_5 : decode cJ12_floorMod 5 = .ok (.iload_n 1, 1) := dk_27 (dk_at dksJ12_floorMod_0 5 rfl rfl)
theorem dJ12_floorMod_6 : decode cJ12_floorMod 6 = .ok (.ixor, 1) := dk_130 (dk_at dksJ12_floorMod_0 6 rfl rfl)
theorem dJ12_floorMod_7 : decode cJ12_floorMod 7 = .ok (.ifCond .ge 11, 3) := dk_156 0 11 (dk_at dksJ12_floorMod_0 7 rfl rfl)
theorem dJ12_floorMod_10 : decode cJ12_floorMod 10 = .ok (.iload_n 2, 1) := dk_28 (dk_at dksJ12_floorMod_0 10 rfl rfl)
theorem dJ12_floorMod_11 : decode cJ12_floorMod 11 = .ok (.ifCond .eq 7, 3) := dk_153 0 7 (dk_at dksJ12_floorMod_0 11 rfl rfl)
theorem dJ12_floorMod_14 : decode cJ12_floorMod 14 = .ok (.iload_n 2, 1) := dk_28 (dk_at dksJ12_floorMod_0 14 rfl rfl)
theorem dJ12_floorMod_15 : decode cJ12_floorMod 15 = .ok (.iload_n 1, 1) := dk_27 (dk_at dksJ12_floorMod_0 15 rfl rfl)
theorem dJ12_floorMod_16 : decode cJ12_floorMod 16 = .ok (.iadd, 1) := dk_96 (dk_at dksJ12_floorMod_0 16 rfl rfl)
theorem dJ12_floorMod_17 : decode cJ12_floorMod 17 = .ok (.ireturn, 1) := dk_172 (dk_at dksJ12_floorMod_0 17 rfl rfl)
theorem dJ12_floorMod_18 : decode cJ12_floorMod 18 = .ok (.iload_n 2, 1) := dk_28 (dk_at dksJ12_floorMod_0 18 rfl rfl)
theorem dJ12_floorMod_19 : decode cJ12_floorMod 19 = .ok (.ireturn, 1) := dk_172 (dk_at dksJ12_floorMod_0 19 rfl rfl)
abbrev cJ12_floorMod_2 : ByteArray := prog_56_method_52_code
def yJ12_floorMod_2 : MethodName := ⟨RJ12, "floorMod", "(JJ)J"⟩
def dkwJ12_floorMod_2_1 : List UInt8 := [173, 22, 4, 173]
abbrev dktJ12_floorMod_2_1 : List UInt8 := dkwJ12_floorMod_2_1 ++ []
def dkwJ12_floorMod_2_0 : List UInt8 := [30, 32, 113, 55, 4, 30, 32, 131, 9, 148, 156, 0, 15, 22, 4, 9, 148, 153, 0, 8, 22, 4, 32, 97]
abbrev dktJ12_floorMod_2_0 : List UInt8 := dkwJ12_floorMod_2_0 ++ dktJ12_floorMod_2_1
theorem dksJ12_floorMod_2_0 : cJ12_floorMod_2.data.toList.drop 0 = dktJ12_floorMod_2_0 := by decide +kernel
theorem dksJ12_floorMod_2_1 : cJ12_floorMod_2.data.toList.drop 24 = dktJ12_floorMod_2_1 := dk_seg dksJ12_floorMod_2_0 24 rfl rfl
theorem dJ12_floorMod_2_0 : decode cJ12_floorMod_2 0 = .ok (.lload_n 0, 1) := dk_30 (dk_at dksJ12_floorMod_2_0 0 rfl rfl)
theorem dJ12_floorMod_2_1 : decode cJ12_floorMod_2 1 = .ok (.lload_n 2, 1) := dk_32 (dk_at dksJ12_floorMod_2_0 1 rfl rfl)
theorem dJ12_floorMod_2_2 : decode cJ12_floorMod_2 2 = .ok (.lrem, 1) := dk_113 (dk_at dksJ12_floorMod_2_0 2 rfl rfl)
theorem dJ12_floorMod_2_3 : decode cJ12_floorMod_2 3 = .ok (.lstore 4, 2) := dk_55 4 (dk_at dksJ12_floorMod_2_0 3 rfl rfl)
theorem dJ12_floorMod_2_5 : decode cJ12_floorMod_2 5 = .ok (.lload_n 0, 1) := dk_30 (dk_at dksJ12_floorMod_2_0 5 rfl rfl)
theorem dJ12_floorMod_2_6 : decode cJ12_floorMod_2 6 = .ok (.lload_n 2, 1) := dk_32 (dk_at dksJ12_floorMod_2_0 6 rfl rfl)
theorem dJ12_floorMod_2_7 : decode cJ12_floorMod_2 7 = .ok (.lxor, 1) := dk_131 (dk_at dksJ12_floorMod_2_0 7 rfl rfl)
theorem dJ12_floorMod_2_8 : decode cJ12_floorMod_2 8 = .ok (.lconst 0, 1) := dk_9 (dk_at dksJ12_floorMod_2_0 8 rfl rfl)
theorem dJ12_floorMod_2_9 : decode cJ12_floorMod_2 9 = .ok (.lcmp, 1) := dk_148 (dk_at dksJ12_floorMod_2_0 9 rfl rfl)
theorem dJ12_floorMod_2_10 : decode cJ12_floorMod_2 10 = .ok (.ifCond .ge 15, 3) := dk_156 0 15 (dk_at dksJ12_floorMod_2_0 10 rfl rfl)
theorem dJ12_floorMod_2_13 : decode cJ12_floorMod_2 13 = .ok (.lload 4, 2) := dk_22 4 (dk_at dksJ12_floorMod_2_0 13 rfl rfl)
theorem dJ12_floorMod_2_15 : decode cJ12_floorMod_2 15 = .ok (.lconst 0, 1) := dk_9 (dk_at dksJ12_floorMod_2_0 15 rfl rfl)
theorem dJ12_floorMod_2_16 : decode cJ12_floorMod_2 16 = .ok (.lcmp, 1) := dk_148 (dk_at dksJ12_floorMod_2_0 16 rfl rfl)
theorem dJ12_floorMod_2_17 : decode cJ12_floorMod_2 17 = .ok (.ifCond .eq 8, 3) := dk_153 0 8 (dk_at dksJ12_floorMod_2_0 17 rfl rfl)
theorem dJ12_floorMod_2_20 : decode cJ12_floorMod_2 20 = .ok (.lload 4, 2) := dk_22 4 (dk_at dksJ12_floorMod_2_0 20 rfl rfl)
theorem dJ12_floorMod_2_22 : decode cJ12_floorMod_2 22 = .ok (.lload_n 2, 1) := dk_32 (dk_at dksJ12_floorMod_2_0 22 rfl rfl)
theorem dJ12_floorMod_2_23 : decode cJ12_floorMod_2 23 = .ok (.ladd, 1) := dk_97 (dk_at dksJ12_floorMod_2_0 23 rfl rfl)
theorem dJ12_floorMod_2_24 : decode cJ12_floorMod_2 24 = .ok (.lreturn, 1) := dk_173 (dk_at dksJ12_floorMod_2_1 0 rfl rfl)
theorem dJ12_floorMod_2_25 : decode cJ12_floorMod_2 25 = .ok (.lload 4, 2) := dk_22 4 (dk_at dksJ12_floorMod_2_1 1 rfl rfl)
theorem dJ12_floorMod_2_27 : decode cJ12_floorMod_2 27 = .ok (.lreturn, 1) := dk_173 (dk_at dksJ12_floorMod_2_1 3 rfl rfl)
abbrev cJ12_min_2 : ByteArray := prog_56_method_70_code
def yJ12_min_2 : MethodName := ⟨RJ12, "min", "(JJ)J"⟩
def dkwJ12_min_2_0 : List UInt8 := [30, 32, 148, 157, 0, 7, 30, 167, 0, 4, 32, 173]
abbrev dktJ12_min_2_0 : List UInt8 := dkwJ12_min_2_0 ++ []
theorem dksJ12_min_2_0 : cJ12_min_2.data.toList.drop 0 = dktJ12_min_2_0 := by decide +kernel
theorem dJ12_min_2_0 : decode cJ12_min_2 0 = .ok (.lload_n 0, 1) := dk_30 (dk_at dksJ12_min_2_0 0 rfl rfl)
theorem dJ12_min_2_1 : decode cJ12_min_2 1 = .ok (.lload_n 2, 1) := dk_32 (dk_at dksJ12_min_2_0 1 rfl rfl)
theorem dJ12_min_2_2 : decode cJ12_min_2 2 = .ok (.lcmp, 1) := dk_148 (dk_at dksJ12_min_2_0 2 rfl rfl)
theorem dJ12_min_2_3 : decode cJ12_min_2 3 = .ok (.ifCond .gt 7, 3) := dk_157 0 7 (dk_at dksJ12_min_2_0 3 rfl rfl)
theorem dJ12_min_2_6 : decode cJ12_min_2 6 = .ok (.lload_n 0, 1) := dk_30 (dk_at dksJ12_min_2_0 6 rfl rfl)
theorem dJ12_min_2_7 : decode cJ12_min_2 7 = .ok (.goto 4, 3) := dk_167 0 4 (dk_at dksJ12_min_2_0 7 rfl rfl)
theorem dJ12_min_2_10 : decode cJ12_min_2 10 = .ok (.lload_n 2, 1) := dk_32 (dk_at dksJ12_min_2_0 10 rfl rfl)
theorem dJ12_min_2_11 : decode cJ12_min_2 11 = .ok (.lreturn, 1) := dk_173 (dk_at dksJ12_min_2_0 11 rfl rfl)
abbrev cJ12_floorDiv : ByteArray := prog_56_method_47_code
def yJ12_floorDiv : MethodName := ⟨RJ12, "floorDiv", "(II)I"⟩
def dkwJ12_floorDiv_0 : List UInt8 := [26, 27, 108, 61, 26, 27, 130, 156, 0, 14, 28, 27, 104, 26, 159, 0, 7, 28, 4, 100, 172, 28, 172]
abbrev dktJ12_floorDiv_0 : List UInt8 := dkwJ12_floorDiv_0 ++ []
theorem dksJ12_floorDiv_0 : cJ12_floorDiv.data.toList.drop 0 = dktJ12_floorDiv_0 := by decide +kernel
theorem dJ12_floorDiv_0 : decode cJ12_floorDiv 0 = .ok (.iload_n 0, 1) := dk_26 (dk_at dksJ12_floorDiv_0 0 rfl rfl)
theorem dJ12_floorDiv_1 : decode cJ12_floorDiv 1 = .ok (.iload_n 1, 1) := dk_27 (dk_at dksJ12_floorDiv_0 1 rfl rfl)
theorem dJ12_floorDiv_2 : decode cJ12_floorDiv 2 = .ok (.idiv, 1) := dk_108 (dk_at dksJ12_floorDiv_0 2 rfl rfl)
theorem dJ12_floorDiv_3 : decode cJ12_floorDiv 3 = .ok (.istore_n 2, 1) := dk_61 (dk_at dksJ12_floorDiv_0 3 rfl rfl)
theorem dJ12_floorDiv_4 : decode cJ12_floorDiv 4 = .ok (.iload_n 0, 1) := dk_26 (dk_at dksJ12_floorDiv_0 4 rfl rfl)
theorem dJ12_floorDiv_5 : decode cJ12_floorDiv 5 = .ok (.iload_n 1, 1) := dk_27 (dk_at dksJ12_floorDiv_0 5 rfl rfl)
theorem dJ12_floorDiv_6 : decode cJ12_floorDiv 6 = .ok (.ixor, 1) := dk_130 (dk_at dksJ12_floorDiv_0 6 rfl rfl)
theorem dJ12_floorDiv_7 : decode cJ12_floorDiv 7 = .ok (.ifCond .ge 14, 3) := dk_156 0 14 (dk_at dksJ12_floorDiv_0 7 rfl rfl)
theorem dJ12_floorDiv_10 : decode cJ12_floorDiv 10 = .ok (.iload_n 2, 1) := dk_28 (dk_at dksJ12_floorDiv_0 10 rfl rfl)
theorem dJ12_floorDiv_11 : decode cJ12_floorDiv 11 = .ok (.iload_n 1, 1) := dk_27 (dk_at dksJ12_floorDiv_0 11 rfl rfl)
theorem dJ12_floorDiv_12 : decode cJ12_floorDiv 12 = .ok (.imul, 1) := dk_104 (dk_at dksJ12_floorDiv_0 12 rfl rfl)
theorem dJ12_floorDiv_13 : decode cJ12_floorDiv 13 = .ok (.iload_n 0, 1) := dk_26 (dk_at dksJ12_floorDiv_0 13 rfl rfl)
theorem dJ12_floorDiv_14 : decode cJ12_floorDiv 14 = .ok (.if_icmp .eq 7, 3) := dk_159 0 7 (dk_at dksJ12_floorDiv_0 14 rfl rfl)
theorem dJ12_floorDiv_17 : decode cJ12_floorDiv 17 = .ok (.iload_n 2, 1) := dk_28 (dk_at dksJ12_floorDiv_0 17 rfl rfl)
theorem dJ12_floorDiv_18 : decode cJ12_floorDiv 18 = .ok (.iconst 1, 1) := dk_4 (dk_at dksJ12_floorDiv_0 18 rfl rfl)
theorem dJ12_floorDiv_19 : decode cJ12_floorDiv 19 = .ok (.isub, 1) := dk_100 (dk_at dksJ12_floorDiv_0 19 rfl rfl)
theorem dJ12_floorDiv_20 : decode cJ12_floorDiv 20 = .ok (.ireturn, 1) := dk_172 (dk_at dksJ12_floorDiv_0 20 rfl rfl)
theorem dJ12_floorDiv_21 : decode cJ12_floorDiv 21 = .ok (.iload_n 2, 1) := dk_28 (dk_at dksJ12_floorDiv_0 21 rfl rfl)
theorem dJ12_floorDiv_22 : decode cJ12_floorDiv 22 = .ok (.ireturn, 1) := dk_172 (dk_at dksJ12_floorDiv_0 22 rfl rfl)
abbrev cJ12_max_2 : ByteArray := prog_56_method_66_code
def yJ12_max_2 : MethodName := ⟨RJ12, "max", "(JJ)J"⟩
def dkwJ12_max_2_0 : List UInt8 := [30, 32, 148, 155, 0, 7, 30, 167, 0, 4, 32, 173]
abbrev dktJ12_max_2_0 : List UInt8 := dkwJ12_max_2_0 ++ []
theorem dksJ12_max_2_0 : cJ12_max_2.data.toList.drop 0 = dktJ12_max_2_0 := by decide +kernel
theorem dJ12_max_2_0 : decode cJ12_max_2 0 = .ok (.lload_n 0, 1) := dk_30 (dk_at dksJ12_max_2_0 0 rfl rfl)
theorem dJ12_max_2_1 : decode cJ12_max_2 1 = .ok (.lload_n 2, 1) := dk_32 (dk_at dksJ12_max_2_0 1 rfl rfl)
theorem dJ12_max_2_2 : decode cJ12_max_2 2 = .ok (.lcmp, 1) := dk_148 (dk_at dksJ12_max_2_0 2 rfl rfl)
theorem dJ12_max_2_3 : decode cJ12_max_2 3 = .ok (.ifCond .lt 7, 3) := dk_155 0 7 (dk_at dksJ12_max_2_0 3 rfl rfl)
theorem dJ12_max_2_6 : decode cJ12_max_2 6 = .ok (.lload_n 0, 1) := dk_30 (dk_at dksJ12_max_2_0 6 rfl rfl)
theorem dJ12_max_2_7 : decode cJ12_max_2 7 = .ok (.goto 4, 3) := dk_167 0 4 (dk_at dksJ12_max_2_0 7 rfl rfl)
theorem dJ12_max_2_10 : decode cJ12_max_2 10 = .ok (.lload_n 2, 1) := dk_32 (dk_at dksJ12_max_2_0 10 rfl rfl)
theorem dJ12_max_2_11 : decode cJ12_max_2 11 = .ok (.lreturn, 1) := dk_173 (dk_at dksJ12_max_2_0 11 rfl rfl)
abbrev cJ12_floorDiv_2 : ByteArray := prog_56_method_49_code
def yJ12_floorDiv_2 : MethodName := ⟨RJ12, "floorDiv", "(JJ)J"⟩
def dkwJ12_floorDiv_2_1 : List UInt8 := [10, 101, 173, 22, 4, 173]
abbrev dktJ12_floorDiv_2_1 : List UInt8 := dkwJ12_floorDiv_2_1 ++ []
def dkwJ12_floorDiv_2_0 : List UInt8 := [30, 32, 109, 55, 4, 30, 32, 131, 9, 148, 156, 0, 17, 22, 4, 32, 105, 30, 148, 153, 0, 8, 22, 4]
abbrev dktJ12_floorDiv_2_0 : List UInt8 := dkwJ12_floorDiv_2_0 ++ dktJ12_floorDiv_2_1
theorem dksJ12_floorDiv_2_0 : cJ12_floorDiv_2.data.toList.drop 0 = dktJ12_floorDiv_2_0 := by decide +kernel
theorem dksJ12_floorDiv_2_1 : cJ12_floorDiv_2.data.toList.drop 24 = dktJ12_floorDiv_2_1 := dk_seg dksJ12_floorDiv_2_0 24 rfl rfl
theorem dJ12_floorDiv_2_0 : decode cJ12_floorDiv_2 0 = .ok (.lload_n 0, 1) := dk_30 (dk_at dksJ12_floorDiv_2_0 0 rfl rfl)
theorem dJ12_floorDiv_2_1 : decode cJ12_floorDiv_2 1 = .ok (.lload_n 2, 1) := dk_32 (dk_at dksJ12_floorDiv_2_0 1 rfl rfl)
theorem dJ12_floorDiv_2_2 : decode cJ12_floorDiv_2 2 = .ok (.ldiv, 1) := dk_109 (dk_at dksJ12_floorDiv_2_0 2 rfl rfl)
theorem dJ12_floorDiv_2_3 : decode cJ12_floorDiv_2 3 = .ok (.lstore 4, 2) := dk_55 4 (dk_at dksJ12_floorDiv_2_0 3 rfl rfl)
theorem dJ12_floorDiv_2_5 : decode cJ12_floorDiv_2 5 = .ok (.lload_n 0, 1) := dk_30 (dk_at dksJ12_floorDiv_2_0 5 rfl rfl)
theorem dJ12_floorDiv_2_6 : decode cJ12_floorDiv_2 6 = .ok (.lload_n 2, 1) := dk_32 (dk_at dksJ12_floorDiv_2_0 6 rfl rfl)
theorem dJ12_floorDiv_2_7 : decode cJ12_floorDiv_2 7 = .ok (.lxor, 1) := dk_131 (dk_at dksJ12_floorDiv_2_0 7 rfl rfl)
theorem dJ12_floorDiv_2_8 : decode cJ12_floorDiv_2 8 = .ok (.lconst 0, 1) := dk_9 (dk_at dksJ12_floorDiv_2_0 8 rfl rfl)
theorem dJ12_floorDiv_2_9 : decode cJ12_floorDiv_2 9 = .ok (.lcmp, 1) := dk_148 (dk_at dksJ12_floorDiv_2_0 9 rfl rfl)
theorem dJ12_floorDiv_2_10 : decode cJ12_floorDiv_2 10 = .ok (.ifCond .ge 17, 3) := dk_156 0 17 (dk_at dksJ12_floorDiv_2_0 10 rfl rfl)
theorem dJ12_floorDiv_2_13 : decode cJ12_floorDiv_2 13 = .ok (.lload 4, 2) := dk_22 4 (dk_at dksJ12_floorDiv_2_0 13 rfl rfl)
theorem dJ12_floorDiv_2_15 : decode cJ12_floorDiv_2 15 = .ok (.lload_n 2, 1) := dk_32 (dk_at dksJ12_floorDiv_2_0 15 rfl rfl)
theorem dJ12_floorDiv_2_16 : decode cJ12_floorDiv_2 16 = .ok (.lmul, 1) := dk_105 (dk_at dksJ12_floorDiv_2_0 16 rfl rfl)
theorem dJ12_floorDiv_2_17 : decode cJ12_floorDiv_2 17 = .ok (.lload_n 0, 1) := dk_30 (dk_at dksJ12_floorDiv_2_0 17 rfl rfl)
theorem dJ12_floorDiv_2_18 : decode cJ12_floorDiv_2 18 = .ok (.lcmp, 1) := dk_148 (dk_at dksJ12_floorDiv_2_0 18 rfl rfl)
theorem dJ12_floorDiv_2_19 : decode cJ12_floorDiv_2 19 = .ok (.ifCond .eq 8, 3) := dk_153 0 8 (dk_at dksJ12_floorDiv_2_0 19 rfl rfl)
theorem dJ12_floorDiv_2_22 : decode cJ12_floorDiv_2 22 = .ok (.lload 4, 2) := dk_22 4 (dk_at dksJ12_floorDiv_2_0 22 rfl rfl)
theorem dJ12_floorDiv_2_24 : decode cJ12_floorDiv_2 24 = .ok (.lconst 1, 1) := dk_10 (dk_at dksJ12_floorDiv_2_1 0 rfl rfl)
theorem dJ12_floorDiv_2_25 : decode cJ12_floorDiv_2 25 = .ok (.lsub, 1) := dk_101 (dk_at dksJ12_floorDiv_2_1 1 rfl rfl)
theorem dJ12_floorDiv_2_26 : decode cJ12_floorDiv_2 26 = .ok (.lreturn, 1) := dk_173 (dk_at dksJ12_floorDiv_2_1 2 rfl rfl)
theorem dJ12_floorDiv_2_27 : decode cJ12_floorDiv_2 27 = .ok (.lload 4, 2) := dk_22 4 (dk_at dksJ12_floorDiv_2_1 3 rfl rfl)
theorem dJ12_floorDiv_2_29 : decode cJ12_floorDiv_2 29 = .ok (.lreturn, 1) := dk_173 (dk_at dksJ12_floorDiv_2_1 5 rfl rfl)
theorem q556 : (Jvm.Cond.initialized "java/lang/Math") ∈ lw_all := lw_g (lw_at lw_m1 49 rfl) rfl
theorem q2202 : (Jvm.Cond.static ({ cls := "java/lang/Math", name := "min", desc := "(II)I" } : Jvm.MethodName)) ∈ lw_all := lw_g (lw_at lw_m8 15 rfl) rfl
theorem q2203 : (Jvm.Cond.code ({ cls := "java/lang/Math", name := "min", desc := "(II)I" } : Jvm.MethodName) prog_56_method_69_code (2 : Nat) (Option.some Jvm.ClassFile.FieldType.int)) ∈ lw_all := lw_g (lw_at lw_m8 16 rfl) rfl
theorem q4980 : (Jvm.Cond.static ({ cls := "java/lang/Math", name := "max", desc := "(II)I" } : Jvm.MethodName)) ∈ lw_all := lw_g (lw_at lw_m19 153 rfl) rfl
theorem q4981 : (Jvm.Cond.code ({ cls := "java/lang/Math", name := "max", desc := "(II)I" } : Jvm.MethodName) prog_56_method_65_code (2 : Nat) (Option.some Jvm.ClassFile.FieldType.int)) ∈ lw_all := lw_g (lw_at lw_m19 154 rfl) rfl
theorem q5013 : (Jvm.Cond.static ({ cls := "java/lang/Math", name := "abs", desc := "(J)J" } : Jvm.MethodName)) ∈ lw_all := lw_g (lw_at lw_m19 186 rfl) rfl
theorem q5014 : (Jvm.Cond.code ({ cls := "java/lang/Math", name := "abs", desc := "(J)J" } : Jvm.MethodName) prog_56_method_61_code (2 : Nat) (Option.some Jvm.ClassFile.FieldType.long)) ∈ lw_all := lw_g (lw_at lw_m19 187 rfl) rfl
theorem q5019 : (Jvm.Cond.static ({ cls := "java/lang/Math", name := "floorMod", desc := "(II)I" } : Jvm.MethodName)) ∈ lw_all := lw_g (lw_at lw_m19 192 rfl) rfl
theorem q5020 : (Jvm.Cond.code ({ cls := "java/lang/Math", name := "floorMod", desc := "(II)I" } : Jvm.MethodName) prog_56_method_50_code (3 : Nat) (Option.some Jvm.ClassFile.FieldType.int)) ∈ lw_all := lw_g (lw_at lw_m19 193 rfl) rfl
theorem q5026 : (Jvm.Cond.static ({ cls := "java/lang/Math", name := "floorMod", desc := "(JJ)J" } : Jvm.MethodName)) ∈ lw_all := lw_g (lw_at lw_m19 199 rfl) rfl
theorem q5027 : (Jvm.Cond.code ({ cls := "java/lang/Math", name := "floorMod", desc := "(JJ)J" } : Jvm.MethodName) prog_56_method_52_code (6 : Nat) (Option.some Jvm.ClassFile.FieldType.long)) ∈ lw_all := lw_g (lw_at lw_m19 200 rfl) rfl
theorem q5342 : (Jvm.Cond.static ({ cls := "java/lang/Math", name := "min", desc := "(JJ)J" } : Jvm.MethodName)) ∈ lw_all := lw_g (lw_at lw_m21 35 rfl) rfl
theorem q5343 : (Jvm.Cond.code ({ cls := "java/lang/Math", name := "min", desc := "(JJ)J" } : Jvm.MethodName) prog_56_method_70_code (4 : Nat) (Option.some Jvm.ClassFile.FieldType.long)) ∈ lw_all := lw_g (lw_at lw_m21 36 rfl) rfl
theorem q5704 : (Jvm.Cond.static ({ cls := "java/lang/Math", name := "floorDiv", desc := "(II)I" } : Jvm.MethodName)) ∈ lw_all := lw_g (lw_at lw_m22 157 rfl) rfl
theorem q5705 : (Jvm.Cond.code ({ cls := "java/lang/Math", name := "floorDiv", desc := "(II)I" } : Jvm.MethodName) prog_56_method_47_code (3 : Nat) (Option.some Jvm.ClassFile.FieldType.int)) ∈ lw_all := lw_g (lw_at lw_m22 158 rfl) rfl
theorem q5868 : (Jvm.Cond.static ({ cls := "java/lang/Math", name := "max", desc := "(JJ)J" } : Jvm.MethodName)) ∈ lw_all := lw_g (lw_at lw_m23 81 rfl) rfl
theorem q5869 : (Jvm.Cond.code ({ cls := "java/lang/Math", name := "max", desc := "(JJ)J" } : Jvm.MethodName) prog_56_method_66_code (4 : Nat) (Option.some Jvm.ClassFile.FieldType.long)) ∈ lw_all := lw_g (lw_at lw_m23 82 rfl) rfl
theorem q6033 : (Jvm.Cond.static ({ cls := "java/lang/Math", name := "floorDiv", desc := "(JJ)J" } : Jvm.MethodName)) ∈ lw_all := lw_g (lw_at lw_m24 6 rfl) rfl
theorem q6034 : (Jvm.Cond.code ({ cls := "java/lang/Math", name := "floorDiv", desc := "(JJ)J" } : Jvm.MethodName) prog_56_method_49_code (6 : Nat) (Option.some Jvm.ClassFile.FieldType.long)) ∈ lw_all := lw_g (lw_at lw_m24 7 rfl) rfl

/-! java/lang/Integer -/
set_option maxRecDepth 100000
def RJ13 : String := "java/lang/Intege\x72"
abbrev cJ13_compare : ByteArray := prog_54_method_40_code
def yJ13_compare : MethodName := ⟨RJ13, "compare", "(II)I"⟩
def dkwJ13_compare_0 : List UInt8 := [26, 27, 162, 0, 7, 2, 167, 0, 13, 26, 27, 160, 0, 7, 3, 167, 0, 4, 4, 172]
abbrev dktJ13_compare_0 : List UInt8 := dkwJ13_compare_0 ++ []
theorem dksJ13_compare_0 : cJ13_compare.data.toList.drop 0 = dktJ13_compare_0 := by decide +kernel
theorem dJ13_compare_0 : decode cJ13_compare 0 = .ok (.iload_n 0, 1) := dk_26 (dk_at dksJ13_compare_0 0 rfl rfl)
theorem dJ13_compare_1 : decode cJ13_compare 1 = .ok (.iload_n 1, 1) := dk_27 (dk_at dksJ13_compare_0 1 rfl rfl)
theorem dJ13_compare_2 : decode cJ13_compare 2 = .ok (.if_icmp .ge 7, 3) := dk_162 0 7 (dk_at dksJ13_compare_0 2 rfl rfl)
theorem dJ13_compare_5 : decode cJ13_compare 5 = .ok (.iconst (-1), 1) := dk_2 (dk_at dksJ13_compare_0 5 rfl rfl)
theorem dJ13_compare_6 : decode cJ13_compare 6 = .ok (.goto 13, 3) := dk_167 0 13 (dk_at dksJ13_compare_0 6 rfl rfl)
theorem dJ13_compare_9 : decode cJ13_compare 9 = .ok (.iload_n 0, 1) := dk_26 (dk_at dksJ13_compare_0 9 rfl rfl)
theorem dJ13_compare_10 : decode cJ13_compare 10 = .ok (.iload_n 1, 1) := dk_27 (dk_at dksJ13_compare_0 10 rfl rfl)
theorem dJ13_compare_11 : decode cJ13_compare 11 = .ok (.if_icmp .ne 7, 3) := dk_160 0 7 (dk_at dksJ13_compare_0 11 rfl rfl)
theorem dJ13_compare_14 : decode cJ13_compare 14 = .ok (.iconst 0, 1) := dk_3 (dk_at dksJ13_compare_0 14 rfl rfl)
theorem dJ13_compare_15 : decode cJ13_compare 15 = .ok (.goto 4, 3) := dk_167 0 4 (dk_at dksJ13_compare_0 15 rfl rfl)
theorem dJ13_compare_18 : decode cJ13_compare 18 = .ok (.iconst 1, 1) := dk_4 (dk_at dksJ13_compare_0 18 rfl rfl)
theorem dJ13_compare_19 : decode cJ13_compare 19 = .ok (.ireturn, 1) := dk_172 (dk_at dksJ13_compare_0 19 rfl rfl)
theorem q558 : (Jvm.Cond.initialized "java/lang/Intege\x72") ∈ lw_all := lw_g (lw_at lw_m1 51 rfl) rfl
theorem q5010 : (Jvm.Cond.static ({ cls := "java/lang/Intege\x72", name := "compare", desc := "(II)I" } : Jvm.MethodName)) ∈ lw_all := lw_g (lw_at lw_m19 183 rfl) rfl
theorem q5011 : (Jvm.Cond.code ({ cls := "java/lang/Intege\x72", name := "compare", desc := "(II)I" } : Jvm.MethodName) prog_54_method_40_code (2 : Nat) (Option.some Jvm.ClassFile.FieldType.int)) ∈ lw_all := lw_g (lw_at lw_m19 184 rfl) rfl

/-! java/lang/Long -/
set_option maxRecDepth 100000
def RJ14 : String := "java/lang/Long"
abbrev cJ14_compare : ByteArray := prog_55_method_42_code
def yJ14_compare : MethodName := ⟨RJ14, "compare", "(JJ)I"⟩
def dkwJ14_compare_0 : List UInt8 := [30, 32, 148, 156, 0, 7, 2, 167, 0, 14, 30, 32, 148, 154, 0, 7, 3, 167, 0, 4, 4, 172]
abbrev dktJ14_compare_0 : List UInt8 := dkwJ14_compare_0 ++ []
theorem dksJ14_compare_0 : cJ14_compare.data.toList.drop 0 = dktJ14_compare_0 := by decide +kernel
theorem dJ14_compare_0 : decode cJ14_compare 0 = .ok (.lload_n 0, 1) := dk_30 (dk_at dksJ14_compare_0 0 rfl rfl)
theorem dJ14_compare_1 : decode cJ14_compare 1 = .ok (.lload_n 2, 1) := dk_32 (dk_at dksJ14_compare_0 1 rfl rfl)
theorem dJ14_compare_2 : decode cJ14_compare 2 = .ok (.lcmp, 1) := dk_148 (dk_at dksJ14_compare_0 2 rfl rfl)
theorem dJ14_compare_3 : decode cJ14_compare 3 = .ok (.ifCond .ge 7, 3) := dk_156 0 7 (dk_at dksJ14_compare_0 3 rfl rfl)
theorem dJ14_compare_6 : decode cJ14_compare 6 = .ok (.iconst (-1), 1) := dk_2 (dk_at dksJ14_compare_0 6 rfl rfl)
theorem dJ14_compare_7 : decode cJ14_compare 7 = .ok (.goto 14, 3) := dk_167 0 14 (dk_at dksJ14_compare_0 7 rfl rfl)
theorem dJ14_compare_10 : decode cJ14_compare 10 = .ok (.lload_n 0, 1) := dk_30 (dk_at dksJ14_compare_0 10 rfl rfl)
theorem dJ14_compare_11 : decode cJ14_compare 11 = .ok (.lload_n 2, 1) := dk_32 (dk_at dksJ14_compare_0 11 rfl rfl)
theorem dJ14_compare_12 : decode cJ14_compare 12 = .ok (.lcmp, 1) := dk_148 (dk_at dksJ14_compare_0 12 rfl rfl)
theorem dJ14_compare_13 : decode cJ14_compare 13 = .ok (.ifCond .ne 7, 3) := dk_154 0 7 (dk_at dksJ14_compare_0 13 rfl rfl)
theorem dJ14_compare_16 : decode cJ14_compare 16 = .ok (.iconst 0, 1) := dk_3 (dk_at dksJ14_compare_0 16 rfl rfl)
theorem dJ14_compare_17 : decode cJ14_compare 17 = .ok (.goto 4, 3) := dk_167 0 4 (dk_at dksJ14_compare_0 17 rfl rfl)
theorem dJ14_compare_20 : decode cJ14_compare 20 = .ok (.iconst 1, 1) := dk_4 (dk_at dksJ14_compare_0 20 rfl rfl)
theorem dJ14_compare_21 : decode cJ14_compare 21 = .ok (.ireturn, 1) := dk_172 (dk_at dksJ14_compare_0 21 rfl rfl)
theorem q559 : (Jvm.Cond.initialized "java/lang/Long") ∈ lw_all := lw_g (lw_at lw_m1 52 rfl) rfl
theorem q5016 : (Jvm.Cond.static ({ cls := "java/lang/Long", name := "compare", desc := "(JJ)I" } : Jvm.MethodName)) ∈ lw_all := lw_g (lw_at lw_m19 189 rfl) rfl
theorem q5017 : (Jvm.Cond.code ({ cls := "java/lang/Long", name := "compare", desc := "(JJ)I" } : Jvm.MethodName) prog_55_method_42_code (4 : Nat) (Option.some Jvm.ClassFile.FieldType.int)) ∈ lw_all := lw_g (lw_at lw_m19 190 rfl) rfl

/-! java/lang/StringLatin1 -/
set_option maxRecDepth 100000
def RJ15 : String := "java/lang/StringLatin1"
abbrev cJ15_charAt : ByteArray := prog_60_method_2_code
def yJ15_charAt : MethodName := ⟨RJ15, "charAt", "([BI)C"⟩
def dkwJ15_charAt_0 : List UInt8 := [27, 42, 190, 184, 0, 9, 42, 27, 51, 17, 0, 255, 126, 146, 172]
abbrev dktJ15_charAt_0 : List UInt8 := dkwJ15_charAt_0 ++ []
theorem dksJ15_charAt_0 : cJ15_charAt.data.toList.drop 0 = dktJ15_charAt_0 := by decide +kernel
theorem dJ15_charAt_0 : decode cJ15_charAt 0 = .ok (.iload_n 1, 1) := dk_27 (dk_at dksJ15_charAt_0 0 rfl rfl)
theorem dJ15_charAt_1 : decode cJ15_charAt 1 = .ok (.aload_n 0, 1) := dk_42 (dk_at dksJ15_charAt_0 1 rfl rfl)
theorem dJ15_charAt_2 : decode cJ15_charAt 2 = .ok (.arraylength, 1) := dk_190 (dk_at dksJ15_charAt_0 2 rfl rfl)
theorem dJ15_charAt_3 : decode cJ15_charAt 3 = .ok (.invokestatic 9, 3) := dk_184 0 9 (dk_at dksJ15_charAt_0 3 rfl rfl)
theorem dJ15_charAt_6 : decode cJ15_charAt 6 = .ok (.aload_n 0, 1) := dk_42 (dk_at dksJ15_charAt_0 6 rfl rfl)
theorem dJ15_charAt_7 : decode cJ15_charAt 7 = .ok (.iload_n 1, 1) := dk_27 (dk_at dksJ15_charAt_0 7 rfl rfl)
theorem dJ15_charAt_8 : decode cJ15_charAt 8 = .ok (.baload, 1) := dk_51 (dk_at dksJ15_charAt_0 8 rfl rfl)
theorem dJ15_charAt_9 : decode cJ15_charAt 9 = .ok (.sipush 255, 3) := dk_17 0 255 (dk_at dksJ15_charAt_0 9 rfl rfl)
theorem dJ15_charAt_12 : decode cJ15_charAt 12 = .ok (.iand, 1) := dk_126 (dk_at dksJ15_charAt_0 12 rfl rfl)
theorem dJ15_charAt_13 : decode cJ15_charAt 13 = .ok (.i2c, 1) := dk_146 (dk_at dksJ15_charAt_0 13 rfl rfl)
theorem dJ15_charAt_14 : decode cJ15_charAt 14 = .ok (.ireturn, 1) := dk_172 (dk_at dksJ15_charAt_0 14 rfl rfl)
abbrev cJ15_indexOf : ByteArray := prog_60_method_22_code
def yJ15_indexOf : MethodName := ⟨RJ15, "indexOf", "([BIII)I"⟩
def dkwJ15_indexOf_1 : List UInt8 := [161, 0, 5, 2, 172, 42, 27, 28, 29, 184, 0, 95, 172]
abbrev dktJ15_indexOf_1 : List UInt8 := dkwJ15_indexOf_1 ++ []
def dkwJ15_indexOf_0 : List UInt8 := [27, 184, 0, 88, 154, 0, 5, 2, 172, 28, 3, 184, 0, 92, 61, 29, 42, 190, 184, 0, 38, 62, 28, 29]
abbrev dktJ15_indexOf_0 : List UInt8 := dkwJ15_indexOf_0 ++ dktJ15_indexOf_1
theorem dksJ15_indexOf_0 : cJ15_indexOf.data.toList.drop 0 = dktJ15_indexOf_0 := by decide +kernel
theorem dksJ15_indexOf_1 : cJ15_indexOf.data.toList.drop 24 = dktJ15_indexOf_1 := dk_seg dksJ15_indexOf_0 24 rfl rfl
theorem dJ15_indexOf_0 : decode cJ15_indexOf 0 = .ok (.iload_n 1, 1) := dk_27 (dk_at dksJ15_indexOf_0 0 rfl rfl)
theorem dJ15_indexOf_1 : decode cJ15_indexOf 1 = .ok (.invokestatic 88, 3) := dk_184 0 88 (dk_at dksJ15_indexOf_0 1 rfl rfl)
theorem dJ15_indexOf_4 : decode cJ15_indexOf 4 = .ok (.ifCond .ne 5, 3) := dk_154 0 5 (dk_at dksJ15_indexOf_0 4 rfl rfl)
theorem dJ15_indexOf_7 : decode cJ15_indexOf 7 = .ok (.iconst (-1), 1) := dk_2 (dk_at dksJ15_indexOf_0 7 rfl rfl)
theorem dJ15_indexOf_8 : decode cJ15_indexOf 8 = .ok (.ireturn, 1) := dk_172 (dk_at dksJ15_indexOf_0 8 rfl rfl)
theorem dJ15_indexOf_9 : decode cJ15_indexOf 9 = .ok (.iload_n 2, 1) := dk_28 (dk_at dksJ15_indexOf_0 9 rfl rfl)
theorem dJ15_indexOf_10 : decode cJ15_indexOf 10 = .ok (.iconst 0, 1) := dk_3 (dk_at dksJ15_indexOf_0 10 rfl rfl)
theorem dJ15_indexOf_11 : decode cJ15_indexOf 11 = .ok (.invokestatic 92, 3) := dk_184 0 92 (dk_at dksJ15_indexOf_0 11 rfl rfl)
theorem dJ15_indexOf_14 : decode cJ15_indexOf 14 = .ok (.istore_n 2, 1) := dk_61 (dk_at dksJ15_indexOf_0 14 rfl rfl)
theorem dJ15_indexOf_15 : decode cJ15_indexOf 15 = .ok (.iload_n 3, 1) := dk_29 (dk_at dksJ15_indexOf_0 15 rfl rfl)
theorem dJ15_indexOf_16 : decode cJ15_indexOf 16 = .ok (.aload_n 0, 1) := dk_42 (dk_at dksJ15_indexOf_0 16 rfl rfl)
theorem dJ15_indexOf_17 : decode cJ15_indexOf 17 = .ok (.arraylength, 1) := dk_190 (dk_at dksJ15_indexOf_0 17 rfl rfl)
theorem dJ15_indexOf_18 : decode cJ15_indexOf 18 = .ok (.invokestatic 38, 3) := dk_184 0 38 (dk_at dksJ15_indexOf_0 18 rfl rfl)
theorem dJ15_indexOf_21 : decode cJ15_indexOf 21 = .ok (.istore_n 3, 1) := dk_62 (dk_at dksJ15_indexOf_0 21 rfl rfl)
theorem dJ15_indexOf_22 : decode cJ15_indexOf 22 = .ok (.iload_n 2, 1) := dk_28 (dk_at dksJ15_indexOf_0 22 rfl rfl)
theorem dJ15_indexOf_23 : decode cJ15_indexOf 23 = .ok (.iload_n 3, 1) := dk_29 (dk_at dksJ15_indexOf_0 23 rfl rfl)
theorem dJ15_indexOf_24 : decode cJ15_indexOf 24 = .ok (.if_icmp .lt 5, 3) := dk_161 0 5 (dk_at dksJ15_indexOf_1 0 rfl rfl)
theorem dJ15_indexOf_27 : decode cJ15_indexOf 27 = .ok (.iconst (-1), 1) := dk_2 (dk_at dksJ15_indexOf_1 3 rfl rfl)
theorem dJ15_indexOf_28 : decode cJ15_indexOf 28 = .ok (.ireturn, 1) := dk_172 (dk_at dksJ15_indexOf_1 4 rfl rfl)
theorem dJ15_indexOf_29 : decode cJ15_indexOf 29 = .ok (.aload_n 0, 1) := dk_42 (dk_at dksJ15_indexOf_1 5 rfl rfl)
theorem dJ15_indexOf_30 : decode cJ15_indexOf 30 = .ok (.iload_n 1, 1) := dk_27 (dk_at dksJ15_indexOf_1 6 rfl rfl)
theorem dJ15_indexOf_31 : decode cJ15_indexOf 31 = .ok (.iload_n 2, 1) := dk_28 (dk_at dksJ15_indexOf_1 7 rfl rfl)
theorem dJ15_indexOf_32 : decode cJ15_indexOf 32 = .ok (.iload_n 3, 1) := dk_29 (dk_at dksJ15_indexOf_1 8 rfl rfl)
theorem dJ15_indexOf_33 : decode cJ15_indexOf 33 = .ok (.invokestatic 95, 3) := dk_184 0 95 (dk_at dksJ15_indexOf_1 9 rfl rfl)
theorem dJ15_indexOf_36 : decode cJ15_indexOf 36 = .ok (.ireturn, 1) := dk_172 (dk_at dksJ15_indexOf_1 12 rfl rfl)
abbrev cJ15_canEncode : ByteArray := prog_60_method_4_code
def yJ15_canEncode : MethodName := ⟨RJ15, "canEncode", "(I)Z"⟩
def dkwJ15_canEncode_0 : List UInt8 := [26, 155, 0, 14, 26, 17, 0, 255, 163, 0, 7, 4, 167, 0, 4, 3, 172]
abbrev dktJ15_canEncode_0 : List UInt8 := dkwJ15_canEncode_0 ++ []
theorem dksJ15_canEncode_0 : cJ15_canEncode.data.toList.drop 0 = dktJ15_canEncode_0 := by decide +kernel
theorem dJ15_canEncode_0 : decode cJ15_canEncode 0 = .ok (.iload_n 0, 1) := dk_26 (dk_at dksJ15_canEncode_0 0 rfl rfl)
theorem dJ15_canEncode_1 : decode cJ15_canEncode 1 = .ok (.ifCond .lt 14, 3) := dk_155 0 14 (dk_at dksJ15_canEncode_0 1 rfl rfl)
theorem dJ15_canEncode_4 : decode cJ15_canEncode 4 = .ok (.iload_n 0, 1) := dk_26 (dk_at dksJ15_canEncode_0 4 rfl rfl)
theorem dJ15_canEncode_5 : decode cJ15_canEncode 5 = .ok (.sipush 255, 3) := dk_17 0 255 (dk_at dksJ15_canEncode_0 5 rfl rfl)
theorem dJ15_canEncode_8 : decode cJ15_canEncode 8 = .ok (.if_icmp .gt 7, 3) := dk_163 0 7 (dk_at dksJ15_canEncode_0 8 rfl rfl)
theorem dJ15_canEncode_11 : decode cJ15_canEncode 11 = .ok (.iconst 1, 1) := dk_4 (dk_at dksJ15_canEncode_0 11 rfl rfl)
theorem dJ15_canEncode_12 : decode cJ15_canEncode 12 = .ok (.goto 4, 3) := dk_167 0 4 (dk_at dksJ15_canEncode_0 12 rfl rfl)
theorem dJ15_canEncode_15 : decode cJ15_canEncode 15 = .ok (.iconst 0, 1) := dk_3 (dk_at dksJ15_canEncode_0 15 rfl rfl)
theorem dJ15_canEncode_16 : decode cJ15_canEncode 16 = .ok (.ireturn, 1) := dk_172 (dk_at dksJ15_canEncode_0 16 rfl rfl)
abbrev cJ15_indexOfChar : ByteArray := prog_60_method_23_code
def yJ15_indexOfChar : MethodName := ⟨RJ15, "indexOfCha\x72", "([BIII)I"⟩
def dkwJ15_indexOfChar_1 : List UInt8 := [172, 132, 5, 1, 167, 255, 235, 2, 172]
abbrev dktJ15_indexOfChar_1 : List UInt8 := dkwJ15_indexOfChar_1 ++ []
def dkwJ15_indexOfChar_0 : List UInt8 := [27, 145, 54, 4, 28, 54, 5, 21, 5, 29, 162, 0, 21, 42, 21, 5, 51, 21, 4, 160, 0, 6, 21, 5]
abbrev dktJ15_indexOfChar_0 : List UInt8 := dkwJ15_indexOfChar_0 ++ dktJ15_indexOfChar_1
theorem dksJ15_indexOfChar_0 : cJ15_indexOfChar.data.toList.drop 0 = dktJ15_indexOfChar_0 := by decide +kernel
theorem dksJ15_indexOfChar_1 : cJ15_indexOfChar.data.toList.drop 24 = dktJ15_indexOfChar_1 := dk_seg dksJ15_indexOfChar_0 24 rfl rfl
theorem dJ15_indexOfChar_0 : decode cJ15_indexOfChar 0 = .ok (.iload_n 1, 1) := dk_27 (dk_at dksJ15_indexOfChar_0 0 rfl rfl)
theorem dJ15_indexOfChar_1 : decode cJ15_indexOfChar 1 = .ok (.i2b, 1) := dk_145 (dk_at dksJ15_indexOfChar_0 1 rfl rfl)
theorem dJ15_indexOfChar_2 : decode cJ15_indexOfChar 2 = .ok (.istore 4, 2) := dk_54 4 (dk_at dksJ15_indexOfChar_0 2 rfl rfl)
theorem dJ15_indexOfChar_4 : decode cJ15_indexOfChar 4 = .ok (.iload_n 2, 1) := dk_28 (dk_at dksJ15_indexOfChar_0 4 rfl rfl)
theorem dJ15_indexOfChar_5 : decode cJ15_indexOfChar 5 = .ok (.istore 5, 2) := dk_54 5 (dk_at dksJ15_indexOfChar_0 5 rfl rfl)
theorem dJ15_indexOfChar_7 : decode cJ15_indexOfChar 7 = .ok (.iload 5, 2) := dk_21 5 (dk_at dksJ15_indexOfChar_0 7 rfl rfl)
theorem dJ15_indexOfChar_9 : decode cJ15_indexOfChar 9 = .ok (.iload_n 3, 1) := dk_29 (dk_at dksJ15_indexOfChar_0 9 rfl rfl)
theorem dJ15_indexOfChar_10 : decode cJ15_indexOfChar 10 = .ok (.if_icmp .ge 21, 3) := dk_162 0 21 (dk_at dksJ15_indexOfChar_0 10 rfl rfl)
theorem dJ15_indexOfChar_13 : decode cJ15_indexOfChar 13 = .ok (.aload_n 0, 1) := dk_42 (dk_at dksJ15_indexOfChar_0 13 rfl rfl)
theorem dJ15_indexOfChar_14 : decode cJ15_indexOfChar 14 = .ok (.iload 5, 2) := dk_21 5 (dk_at dksJ15_indexOfChar_0 14 rfl rfl)
theorem dJ15_indexOfChar_16 : decode cJ15_indexOfChar 16 = .ok (.baload, 1) := dk_51 (dk_at dksJ15_indexOfChar_0 16 rfl rfl)
theorem dJ15_indexOfChar_17 : decode cJ15_indexOfChar 17 = .ok (.iload 4, 2) := dk_21 4 (dk_at dksJ15_indexOfChar_0 17 rfl rfl)
theorem dJ15_indexOfChar_19 : decode cJ15_indexOfChar 19 = .ok (.if_icmp .ne 6, 3) := dk_160 0 6 (dk_at dksJ15_indexOfChar_0 19 rfl rfl)
theorem dJ15_indexOfChar_22 : decode cJ15_indexOfChar 22 = .ok (.iload 5, 2) := dk_21 5 (dk_at dksJ15_indexOfChar_0 22 rfl rfl)
theorem dJ15_indexOfChar_24 : decode cJ15_indexOfChar 24 = .ok (.ireturn, 1) := dk_172 (dk_at dksJ15_indexOfChar_1 0 rfl rfl)
theorem dJ15_indexOfChar_25 : decode cJ15_indexOfChar 25 = .ok (.iinc 5 1, 3) := dk_132 5 1 (dk_at dksJ15_indexOfChar_1 1 rfl rfl)
theorem dJ15_indexOfChar_28 : decode cJ15_indexOfChar 28 = .ok (.goto (-21), 3) := dk_167 255 235 (dk_at dksJ15_indexOfChar_1 4 rfl rfl)
theorem dJ15_indexOfChar_31 : decode cJ15_indexOfChar 31 = .ok (.iconst (-1), 1) := dk_2 (dk_at dksJ15_indexOfChar_1 7 rfl rfl)
theorem dJ15_indexOfChar_32 : decode cJ15_indexOfChar 32 = .ok (.ireturn, 1) := dk_172 (dk_at dksJ15_indexOfChar_1 8 rfl rfl)
theorem q563 : (Jvm.Cond.initialized "java/lang/StringLatin1") ∈ lw_all := lw_g (lw_at lw_m1 56 rfl) rfl
theorem q3531 : (Jvm.Cond.static ({ cls := "java/lang/StringLatin1", name := "charAt", desc := "([BI)C" } : Jvm.MethodName)) ∈ lw_all := lw_g (lw_at lw_m13 144 rfl) rfl
theorem q3532 : (Jvm.Cond.code ({ cls := "java/lang/StringLatin1", name := "charAt", desc := "([BI)C" } : Jvm.MethodName) prog_60_method_2_code (2 : Nat) (Option.some Jvm.ClassFile.FieldType.char)) ∈ lw_all := lw_g (lw_at lw_m13 145 rfl) rfl
theorem q3533 : (Jvm.Cond.methodLink "java/lang/StringLatin1" (9 : Nat) ({ cls := "java/lang/String", name := "checkIndex", desc := "(II)V" } : Jvm.MethodName)) ∈ lw_all := lw_g (lw_at lw_m13 146 rfl) rfl
theorem q5463 : (Jvm.Cond.static ({ cls := "java/lang/StringLatin1", name := "indexOf", desc := "([BIII)I" } : Jvm.MethodName)) ∈ lw_all := lw_g (lw_at lw_m21 156 rfl) rfl
theorem q5464 : (Jvm.Cond.code ({ cls := "java/lang/StringLatin1", name := "indexOf", desc := "([BIII)I" } : Jvm.MethodName) prog_60_method_22_code (4 : Nat) (Option.some Jvm.ClassFile.FieldType.int)) ∈ lw_all := lw_g (lw_at lw_m21 157 rfl) rfl
theorem q5465 : (Jvm.Cond.methodLink "java/lang/StringLatin1" (88 : Nat) ({ cls := "java/lang/StringLatin1", name := "canEncode", desc := "(I)Z" } : Jvm.MethodName)) ∈ lw_all := lw_g (lw_at lw_m21 158 rfl) rfl
theorem q5466 : (Jvm.Cond.static ({ cls := "java/lang/StringLatin1", name := "canEncode", desc := "(I)Z" } : Jvm.MethodName)) ∈ lw_all := lw_g (lw_at lw_m21 159 rfl) rfl
theorem q5467 : (Jvm.Cond.code ({ cls := "java/lang/StringLatin1", name := "canEncode", desc := "(I)Z" } : Jvm.MethodName) prog_60_method_4_code (1 : Nat) (Option.some Jvm.ClassFile.FieldType.boolean)) ∈ lw_all := lw_g (lw_at lw_m21 160 rfl) rfl
theorem q5468 : (Jvm.Cond.methodLink "java/lang/StringLatin1" (92 : Nat) ({ cls := "java/lang/Math", name := "max", desc := "(II)I" } : Jvm.MethodName)) ∈ lw_all := lw_g (lw_at lw_m21 161 rfl) rfl
theorem q5469 : (Jvm.Cond.methodLink "java/lang/StringLatin1" (38 : Nat) ({ cls := "java/lang/Math", name := "min", desc := "(II)I" } : Jvm.MethodName)) ∈ lw_all := lw_g (lw_at lw_m21 162 rfl) rfl
theorem q5470 : (Jvm.Cond.methodLink "java/lang/StringLatin1" (95 : Nat) ({ cls := "java/lang/StringLatin1", name := "indexOfCha\x72", desc := "([BIII)I" } : Jvm.MethodName)) ∈ lw_all := lw_g (lw_at lw_m21 163 rfl) rfl
theorem q5471 : (Jvm.Cond.static ({ cls := "java/lang/StringLatin1", name := "indexOfCha\x72", desc := "([BIII)I" } : Jvm.MethodName)) ∈ lw_all := lw_g (lw_at lw_m21 164 rfl) rfl
theorem q5472 : (Jvm.Cond.code ({ cls := "java/lang/StringLatin1", name := "indexOfCha\x72", desc := "([BIII)I" } : Jvm.MethodName) prog_60_method_23_code (6 : Nat) (Option.some Jvm.ClassFile.FieldType.int)) ∈ lw_all := lw_g (lw_at lw_m21 165 rfl) rfl

/-! jdk/internal/util/Preconditions -/
set_option maxRecDepth 100000
def RJ16 : String := "jdk/internal/util/Preconditions"
abbrev cJ16_checkIndex : ByteArray := prog_68_method_11_code
def yJ16_checkIndex : MethodName := ⟨RJ16, "checkIndex", "(IILjava/util/function/BiFunction;)I"⟩
def dkwJ16_checkIndex_0 : List UInt8 := [26, 155, 0, 8, 26, 27, 161, 0, 10, 44, 26, 27, 184, 0, 95, 191, 26, 172]
abbrev dktJ16_checkIndex_0 : List UInt8 := dkwJ16_checkIndex_0 ++ []
theorem dksJ16_checkIndex_0 : cJ16_checkIndex.data.toList.drop 0 = dktJ16_checkIndex_0 := by decide +kernel
theorem dJ16_checkIndex_0 : decode cJ16_checkIndex 0 = .ok (.iload_n 0, 1) := dk_26 (dk_at dksJ16_checkIndex_0 0 rfl rfl)
theorem dJ16_checkIndex_1 : decode cJ16_checkIndex 1 = .ok (.ifCond .lt 8, 3) := dk_155 0 8 (dk_at dksJ16_checkIndex_0 1 rfl rfl)
theorem dJ16_checkIndex_4 : decode cJ16_checkIndex 4 = .ok (.iload_n 0, 1) := dk_26 (dk_at dksJ16_checkIndex_0 4 rfl rfl)
theorem dJ16_checkIndex_5 : decode cJ16_checkIndex 5 = .ok (.iload_n 1, 1) := dk_27 (dk_at dksJ16_checkIndex_0 5 rfl rfl)
theorem dJ16_checkIndex_6 : decode cJ16_checkIndex 6 = .ok (.if_icmp .lt 10, 3) := dk_161 0 10 (dk_at dksJ16_checkIndex_0 6 rfl rfl)
theorem dJ16_checkIndex_9 : decode cJ16_checkIndex 9 = .ok (.aload_n 2, 1) := dk_44 (dk_at dksJ16_checkIndex_0 9 rfl rfl)
theorem dJ16_checkIndex_10 : decode cJ16_checkIndex 10 = .ok (.iload_n 0, 1) := dk_26 (dk_at dksJ16_checkIndex_0 10 rfl rfl)
theorem dJ16_checkIndex_11 : decode cJ16_checkIndex 11 = .ok (.iload_n 1, 1) := dk_27 (dk_at dksJ16_checkIndex_0 11 rfl rfl)
theorem dJ16_checkIndex_12 : decode cJ16_checkIndex 12 = .ok (.invokestatic 95, 3) := dk_184 0 95 (dk_at dksJ16_checkIndex_0 12 rfl rfl)
theorem dJ16_checkIndex_15 : decode cJ16_checkIndex 15 = .ok (.athrow, 1) := dk_191 (dk_at dksJ16_checkIndex_0 15 rfl rfl)
theorem dJ16_checkIndex_16 : decode cJ16_checkIndex 16 = .ok (.iload_n 0, 1) := dk_26 (dk_at dksJ16_checkIndex_0 16 rfl rfl)
theorem dJ16_checkIndex_17 : decode cJ16_checkIndex 17 = .ok (.ireturn, 1) := dk_172 (dk_at dksJ16_checkIndex_0 17 rfl rfl)
abbrev cJ16_checkFromToIndex : ByteArray := prog_68_method_12_code
def yJ16_checkFromToIndex : MethodName := ⟨RJ16, "checkFromToIndex", "(IIILjava/util/function/BiFunction;)I"⟩
def dkwJ16_checkFromToIndex_0 : List UInt8 := [26, 155, 0, 13, 26, 27, 163, 0, 8, 27, 28, 164, 0, 11, 45, 26, 27, 28, 184, 0, 99, 191, 26, 172]
abbrev dktJ16_checkFromToIndex_0 : List UInt8 := dkwJ16_checkFromToIndex_0 ++ []
theorem dksJ16_checkFromToIndex_0 : cJ16_checkFromToIndex.data.toList.drop 0 = dktJ16_checkFromToIndex_0 := by decide +kernel
theorem dJ16_checkFromToIndex_0 : decode cJ16_checkFromToIndex 0 = .ok (.iload_n 0, 1) := dk_26 (dk_at dksJ16_checkFromToIndex_0 0 rfl rfl)
theorem dJ16_checkFromToIndex_1 : decode cJ16_checkFromToIndex 1 = .ok (.ifCond .lt 13, 3) := dk_155 0 13 (dk_at dksJ16_checkFromToIndex_0 1 rfl rfl)
theorem dJ16_checkFromToIndex_4 : decode cJ16_checkFromToIndex 4 = .ok (.iload_n 0, 1) := dk_26 (dk_at dksJ16_checkFromToIndex_0 4 rfl rfl)
theorem dJ16_checkFromToIndex_5 : decode cJ16_checkFromToIndex 5 = .ok (.iload_n 1, 1) := dk_27 (dk_at dksJ16_checkFromToIndex_0 5 rfl rfl)
theorem dJ16_checkFromToIndex_6 : decode cJ16_checkFromToIndex 6 = .ok (.if_icmp .gt 8, 3) := dk_163 0 8 (dk_at dksJ16_checkFromToIndex_0 6 rfl rfl)
theorem dJ16_checkFromToIndex_9 : decode cJ16_checkFromToIndex 9 = .ok (.iload_n 1, 1) := dk_27 (dk_at dksJ16_checkFromToIndex_0 9 rfl rfl)
theorem dJ16_checkFromToIndex_10 : decode cJ16_checkFromToIndex 10 = .ok (.iload_n 2, 1) := dk_28 (dk_at dksJ16_checkFromToIndex_0 10 rfl rfl)
theorem dJ16_checkFromToIndex_11 : decode cJ16_checkFromToIndex 11 = .ok (.if_icmp .le 11, 3) := dk_164 0 11 (dk_at dksJ16_checkFromToIndex_0 11 rfl rfl)
theorem dJ16_checkFromToIndex_14 : decode cJ16_checkFromToIndex 14 = .ok (.aload_n 3, 1) := dk_45 (dk_at dksJ16_checkFromToIndex_0 14 rfl rfl)
theorem dJ16_checkFromToIndex_15 : decode cJ16_checkFromToIndex 15 = .ok (.iload_n 0, 1) := dk_26 (dk_at dksJ16_checkFromToIndex_0 15 rfl rfl)
theorem dJ16_checkFromToIndex_16 : decode cJ16_checkFromToIndex 16 = .ok (.iload_n 1, 1) := dk_27 (dk_at dksJ16_checkFromToIndex_0 16 rfl rfl)
theorem dJ16_checkFromToIndex_17 : decode cJ16_checkFromToIndex 17 = .ok (.iload_n 2, 1) := dk_28 (dk_at dksJ16_checkFromToIndex_0 17 rfl rfl)
theorem dJ16_checkFromToIndex_18 : decode cJ16_checkFromToIndex 18 = .ok (.invokestatic 99, 3) := dk_184 0 99 (dk_at dksJ16_checkFromToIndex_0 18 rfl rfl)
theorem dJ16_checkFromToIndex_21 : decode cJ16_checkFromToIndex 21 = .ok (.athrow, 1) := dk_191 (dk_at dksJ16_checkFromToIndex_0 21 rfl rfl)
theorem dJ16_checkFromToIndex_22 : decode cJ16_checkFromToIndex 22 = .ok (.iload_n 0, 1) := dk_26 (dk_at dksJ16_checkFromToIndex_0 22 rfl rfl)
theorem dJ16_checkFromToIndex_23 : decode cJ16_checkFromToIndex 23 = .ok (.ireturn, 1) := dk_172 (dk_at dksJ16_checkFromToIndex_0 23 rfl rfl)
theorem q564 : (Jvm.Cond.initialized "jdk/internal/util/Preconditions") ∈ lw_all := lw_g (lw_at lw_m1 57 rfl) rfl
theorem q3537 : (Jvm.Cond.laysStatic "jdk/internal/util/Preconditions" "SIOOBE_FORMATTER" "Ljava/util/function/BiFunction;") ∈ lw_tbl := lw_at lw_m13 150 rfl
theorem q3539 : (Jvm.Cond.static ({ cls := "jdk/internal/util/Preconditions", name := "checkIndex", desc := "(IILjava/util/function/BiFunction;)I" } : Jvm.MethodName)) ∈ lw_all := lw_g (lw_at lw_m13 152 rfl) rfl
theorem q3540 : (Jvm.Cond.code ({ cls := "jdk/internal/util/Preconditions", name := "checkIndex", desc := "(IILjava/util/function/BiFunction;)I" } : Jvm.MethodName) prog_68_method_11_code (3 : Nat) (Option.some Jvm.ClassFile.FieldType.int)) ∈ lw_all := lw_g (lw_at lw_m13 153 rfl) rfl
theorem q5489 : (Jvm.Cond.static ({ cls := "jdk/internal/util/Preconditions", name := "checkFromToIndex", desc := "(IIILjava/util/function/BiFunction;)I" } : Jvm.MethodName)) ∈ lw_all := lw_g (lw_at lw_m21 182 rfl) rfl
theorem q5490 : (Jvm.Cond.code ({ cls := "jdk/internal/util/Preconditions", name := "checkFromToIndex", desc := "(IIILjava/util/function/BiFunction;)I" } : Jvm.MethodName) prog_68_method_12_code (4 : Nat) (Option.some Jvm.ClassFile.FieldType.int)) ∈ lw_all := lw_g (lw_at lw_m21 183 rfl) rfl

/-! java/lang/StringUTF16 -/
set_option maxRecDepth 100000
def RJ17 : String := "java/lang/StringUTF16"
abbrev cJ17_charAt : ByteArray := prog_61_method_83_code
def yJ17_charAt : MethodName := ⟨RJ17, "charAt", "([BI)C"⟩
def dkwJ17_charAt_0 : List UInt8 := [27, 42, 184, 0, 67, 42, 27, 184, 0, 71, 172]
abbrev dktJ17_charAt_0 : List UInt8 := dkwJ17_charAt_0 ++ []
theorem dksJ17_charAt_0 : cJ17_charAt.data.toList.drop 0 = dktJ17_charAt_0 := by decide +kernel
theorem dJ17_charAt_0 : decode cJ17_charAt 0 = .ok (.iload_n 1, 1) := dk_27 (dk_at dksJ17_charAt_0 0 rfl rfl)
theorem dJ17_charAt_1 : decode cJ17_charAt 1 = .ok (.aload_n 0, 1) := dk_42 (dk_at dksJ17_charAt_0 1 rfl rfl)
theorem dJ17_charAt_2 : decode cJ17_charAt 2 = .ok (.invokestatic 67, 3) := dk_184 0 67 (dk_at dksJ17_charAt_0 2 rfl rfl)
theorem dJ17_charAt_5 : decode cJ17_charAt 5 = .ok (.aload_n 0, 1) := dk_42 (dk_at dksJ17_charAt_0 5 rfl rfl)
theorem dJ17_charAt_6 : decode cJ17_charAt 6 = .ok (.iload_n 1, 1) := dk_27 (dk_at dksJ17_charAt_0 6 rfl rfl)
theorem dJ17_charAt_7 : decode cJ17_charAt 7 = .ok (.invokestatic 71, 3) := dk_184 0 71 (dk_at dksJ17_charAt_0 7 rfl rfl)
theorem dJ17_charAt_10 : decode cJ17_charAt 10 = .ok (.ireturn, 1) := dk_172 (dk_at dksJ17_charAt_0 10 rfl rfl)
abbrev cJ17_checkIndex : ByteArray := prog_61_method_91_code
def yJ17_checkIndex : MethodName := ⟨RJ17, "checkIndex", "(I[B)V"⟩
def dkwJ17_checkIndex_0 : List UInt8 := [26, 43, 184, 0, 48, 184, 1, 158, 177]
abbrev dktJ17_checkIndex_0 : List UInt8 := dkwJ17_checkIndex_0 ++ []
theorem dksJ17_checkIndex_0 : cJ17_checkIndex.data.toList.drop 0 = dktJ17_checkIndex_0 := by decide +kernel
theorem dJ17_checkIndex_0 : decode cJ17_checkIndex 0 = .ok (.iload_n 0, 1) := dk_26 (dk_at dksJ17_checkIndex_0 0 rfl rfl)
theorem dJ17_checkIndex_1 : decode cJ17_checkIndex 1 = .ok (.aload_n 1, 1) := dk_43 (dk_at dksJ17_checkIndex_0 1 rfl rfl)
theorem dJ17_checkIndex_2 : decode cJ17_checkIndex 2 = .ok (.invokestatic 48, 3) := dk_184 0 48 (dk_at dksJ17_checkIndex_0 2 rfl rfl)
theorem dJ17_checkIndex_5 : decode cJ17_checkIndex 5 = .ok (.invokestatic 414, 3) := dk_184 1 158 (dk_at dksJ17_checkIndex_0 5 rfl rfl)
theorem dJ17_checkIndex_8 : decode cJ17_checkIndex 8 = .ok (.return_, 1) := dk_177 (dk_at dksJ17_checkIndex_0 8 rfl rfl)
abbrev cJ17_length : ByteArray := prog_61_method_6_code
def yJ17_length : MethodName := ⟨RJ17, "length", "([B)I"⟩
def dkwJ17_length_0 : List UInt8 := [42, 190, 4, 122, 172]
abbrev dktJ17_length_0 : List UInt8 := dkwJ17_length_0 ++ []
theorem dksJ17_length_0 : cJ17_length.data.toList.drop 0 = dktJ17_length_0 := by decide +kernel
theorem dJ17_length_0 : decode cJ17_length 0 = .ok (.aload_n 0, 1) := dk_42 (dk_at dksJ17_length_0 0 rfl rfl)
theorem dJ17_length_1 : decode cJ17_length 1 = .ok (.arraylength, 1) := dk_190 (dk_at dksJ17_length_0 1 rfl rfl)
theorem dJ17_length_2 : decode cJ17_length 2 = .ok (.iconst 1, 1) := dk_4 (dk_at dksJ17_length_0 2 rfl rfl)
theorem dJ17_length_3 : decode cJ17_length 3 = .ok (.ishr, 1) := dk_122 (dk_at dksJ17_length_0 3 rfl rfl)
theorem dJ17_length_4 : decode cJ17_length 4 = .ok (.ireturn, 1) := dk_172 (dk_at dksJ17_length_0 4 rfl rfl)
abbrev cJ17_getChar : ByteArray := prog_61_method_5_code
def yJ17_getChar : MethodName := ⟨RJ17, "getCha\x72", "([BI)C"⟩
def dkwJ17_getChar_2 : List UInt8 := [51, 17, 0, 255, 126, 178, 0, 63, 120, 128, 146, 172]
abbrev dktJ17_getChar_2 : List UInt8 := dkwJ17_getChar_2 ++ []
def dkwJ17_getChar_1 : List UInt8 := [183, 0, 56, 191, 27, 4, 120, 60, 42, 27, 132, 1, 1, 51, 17, 0, 255, 126, 178, 0, 59, 120, 42, 27]
abbrev dktJ17_getChar_1 : List UInt8 := dkwJ17_getChar_1 ++ dktJ17_getChar_2
def dkwJ17_getChar_0 : List UInt8 := [178, 0, 44, 154, 0, 25, 27, 155, 0, 11, 27, 42, 184, 0, 48, 161, 0, 13, 187, 0, 52, 89, 18, 54]
abbrev dktJ17_getChar_0 : List UInt8 := dkwJ17_getChar_0 ++ dktJ17_getChar_1
theorem dksJ17_getChar_0 : cJ17_getChar.data.toList.drop 0 = dktJ17_getChar_0 := by decide +kernel
theorem dksJ17_getChar_1 : cJ17_getChar.data.toList.drop 24 = dktJ17_getChar_1 := dk_seg dksJ17_getChar_0 24 rfl rfl
theorem dksJ17_getChar_2 : cJ17_getChar.data.toList.drop 48 = dktJ17_getChar_2 := dk_seg dksJ17_getChar_1 24 rfl rfl
theorem dJ17_getChar_0 : decode cJ17_getChar 0 = .ok (.getstatic 44, 3) := dk_178 0 44 (dk_at dksJ17_getChar_0 0 rfl rfl)
theorem dJ17_getChar_3 : decode cJ17_getChar 3 = .ok (.ifCond .ne 25, 3) := dk_154 0 25 (dk_at dksJ17_getChar_0 3 rfl rfl)
theorem dJ17_getChar_6 : decode cJ17_getChar 6 = .ok (.iload_n 1, 1) := dk_27 (dk_at dksJ17_getChar_0 6 rfl rfl)
theorem dJ17_getChar_7 : decode cJ17_getChar 7 = .ok (.ifCond .lt 11, 3) := dk_155 0 11 (dk_at dksJ17_getChar_0 7 rfl rfl)
theorem dJ17_getChar_10 : decode cJ17_getChar 10 = .ok (.iload_n 1, 1) := dk_27 (dk_at dksJ17_getChar_0 10 rfl rfl)
theorem dJ17_getChar_11 : decode cJ17_getChar 11 = .ok (.aload_n 0, 1) := dk_42 (dk_at dksJ17_getChar_0 11 rfl rfl)
theorem dJ17_getChar_12 : decode cJ17_getChar 12 = .ok (.invokestatic 48, 3) := dk_184 0 48 (dk_at dksJ17_getChar_0 12 rfl rfl)
theorem dJ17_getChar_15 : decode cJ17_getChar 15 = .ok (.if_icmp .lt 13, 3) := dk_161 0 13 (dk_at dksJ17_getChar_0 15 rfl rfl)
theorem dJ17_getChar_18 : decode cJ17_getChar 18 = .ok (.new 52, 3) := dk_187 0 52 (dk_at dksJ17_getChar_0 18 rfl rfl)
theorem dJ17_getChar_21 : decode cJ17_getChar 21 = .ok (.dup, 1) := dk_89 (dk_at dksJ17_getChar_0 21 rfl rfl)
theorem dJ17_getChar_22 : decode cJ17_getChar 22 = .ok (.ldc 54, 2) := dk_18 54 (dk_at dksJ17_getChar_0 22 rfl rfl)
theorem dJ17_getChar_24 : decode cJ17_getChar 24 = .ok (.invokespecial 56, 3) := dk_183 0 56 (dk_at dksJ17_getChar_1 0 rfl rfl)
theorem dJ17_getChar_27 : decode cJ17_getChar 27 = .ok (.athrow, 1) := dk_191 (dk_at dksJ17_getChar_1 3 rfl rfl)
theorem dJ17_getChar_28 : decode cJ17_getChar 28 = .ok (.iload_n 1, 1) := dk_27 (dk_at dksJ17_getChar_1 4 rfl rfl)
theorem dJ17_getChar_29 : decode cJ17_getChar 29 = .ok (.iconst 1, 1) := dk_4 (dk_at dksJ17_getChar_1 5 rfl rfl)
theorem dJ17_getChar_30 : decode cJ17_getChar 30 = .ok (.ishl, 1) := dk_120 (dk_at dksJ17_getChar_1 6 rfl rfl)
theorem dJ17_getChar_31 : decode cJ17_getChar 31 = .ok (.istore_n 1, 1) := dk_60 (dk_at dksJ17_getChar_1 7 rfl rfl)
theorem dJ17_getChar_32 : decode cJ17_getChar 32 = .ok (.aload_n 0, 1) := dk_42 (dk_at dksJ17_getChar_1 8 rfl rfl)
theorem dJ17_getChar_33 : decode cJ17_getChar 33 = .ok (.iload_n 1, 1) := dk_27 (dk_at dksJ17_getChar_1 9 rfl rfl)
theorem dJ17_getChar_34 : decode cJ17_getChar 34 = .ok (.iinc 1 1, 3) := dk_132 1 1 (dk_at dksJ17_getChar_1 10 rfl rfl)
theorem dJ17_getChar_37 : decode cJ17_getChar 37 = .ok (.baload, 1) := dk_51 (dk_at dksJ17_getChar_1 13 rfl rfl)
theorem dJ17_getChar_38 : decode cJ17_getChar 38 = .ok (.sipush 255, 3) := dk_17 0 255 (dk_at dksJ17_getChar_1 14 rfl rfl)
theorem dJ17_getChar_41 : decode cJ17_getChar 41 = .ok (.iand, 1) := dk_126 (dk_at dksJ17_getChar_1 17 rfl rfl)
theorem dJ17_getChar_42 : decode cJ17_getChar 42 = .ok (.getstatic 59, 3) := dk_178 0 59 (dk_at dksJ17_getChar_1 18 rfl rfl)
theorem dJ17_getChar_45 : decode cJ17_getChar 45 = .ok (.ishl, 1) := dk_120 (dk_at dksJ17_getChar_1 21 rfl rfl)
theorem dJ17_getChar_46 : decode cJ17_getChar 46 = .ok (.aload_n 0, 1) := dk_42 (dk_at dksJ17_getChar_1 22 rfl rfl)
theorem dJ17_getChar_47 : decode cJ17_getChar 47 = .ok (.iload_n 1, 1) := dk_27 (dk_at dksJ17_getChar_1 23 rfl rfl)
theorem dJ17_getChar_48 : decode cJ17_getChar 48 = .ok (.baload, 1) := dk_51 (dk_at dksJ17_getChar_2 0 rfl rfl)
theorem dJ17_getChar_49 : decode cJ17_getChar 49 = .ok (.sipush 255, 3) := dk_17 0 255 (dk_at dksJ17_getChar_2 1 rfl rfl)
theorem dJ17_getChar_52 : decode cJ17_getChar 52 = .ok (.iand, 1) := dk_126 (dk_at dksJ17_getChar_2 4 rfl rfl)
theorem dJ17_getChar_53 : decode cJ17_getChar 53 = .ok (.getstatic 63, 3) := dk_178 0 63 (dk_at dksJ17_getChar_2 5 rfl rfl)
theorem dJ17_getChar_56 : decode cJ17_getChar 56 = .ok (.ishl, 1) := dk_120 (dk_at dksJ17_getChar_2 8 rfl rfl)
theorem dJ17_getChar_57 : decode cJ17_getChar 57 = .ok (.ior, 1) := dk_128 (dk_at dksJ17_getChar_2 9 rfl rfl)
theorem dJ17_getChar_58 : decode cJ17_getChar 58 = .ok (.i2c, 1) := dk_146 (dk_at dksJ17_getChar_2 10 rfl rfl)
theorem dJ17_getChar_59 : decode cJ17_getChar 59 = .ok (.ireturn, 1) := dk_172 (dk_at dksJ17_getChar_2 11 rfl rfl)
abbrev cJ17_indexOf : ByteArray := prog_61_method_40_code
def yJ17_indexOf : MethodName := ⟨RJ17, "indexOf", "([BIII)I"⟩
def dkwJ17_indexOf_1 : List UInt8 := [18, 227, 162, 0, 11, 42, 27, 28, 29, 184, 0, 228, 172, 42, 27, 28, 29, 184, 0, 232, 172]
abbrev dktJ17_indexOf_1 : List UInt8 := dkwJ17_indexOf_1 ++ []
def dkwJ17_indexOf_0 : List UInt8 := [28, 3, 184, 0, 224, 61, 29, 42, 190, 4, 122, 184, 0, 183, 62, 28, 29, 161, 0, 5, 2, 172, 27]
abbrev dktJ17_indexOf_0 : List UInt8 := dkwJ17_indexOf_0 ++ dktJ17_indexOf_1
theorem dksJ17_indexOf_0 : cJ17_indexOf.data.toList.drop 0 = dktJ17_indexOf_0 := by decide +kernel
theorem dksJ17_indexOf_1 : cJ17_indexOf.data.toList.drop 23 = dktJ17_indexOf_1 := dk_seg dksJ17_indexOf_0 23 rfl rfl
theorem dJ17_indexOf_0 : decode cJ17_indexOf 0 = .ok (.iload_n 2, 1) := dk_28 (dk_at dksJ17_indexOf_0 0 rfl rfl)
theorem dJ17_indexOf_1 : decode cJ17_indexOf 1 = .ok (.iconst 0, 1) := dk_3 (dk_at dksJ17_indexOf_0 1 rfl rfl)
theorem dJ17_indexOf_2 : decode cJ17_indexOf 2 = .ok (.invokestatic 224, 3) := dk_184 0 224 (dk_at dksJ17_indexOf_0 2 rfl rfl)
theorem dJ17_indexOf_5 : decode cJ17_indexOf 5 = .ok (.istore_n 2, 1) := dk_61 (dk_at dksJ17_indexOf_0 5 rfl rfl)
theorem dJ17_indexOf_6 : decode cJ17_indexOf 6 = .ok (.iload_n 3, 1) := dk_29 (dk_at dksJ17_indexOf_0 6 rfl rfl)
theorem dJ17_indexOf_7 : decode cJ17_indexOf 7 = .ok (.aload_n 0, 1) := dk_42 (dk_at dksJ17_indexOf_0 7 rfl rfl)
theorem dJ17_indexOf_8 : decode cJ17_indexOf 8 = .ok (.arraylength, 1) := dk_190 (dk_at dksJ17_indexOf_0 8 rfl rfl)
theorem dJ17_indexOf_9 : decode cJ17_indexOf 9 = .ok (.iconst 1, 1) := dk_4 (dk_at dksJ17_indexOf_0 9 rfl rfl)
theorem dJ17_indexOf_10 : decode cJ17_indexOf 10 = .ok (.ishr, 1) := dk_122 (dk_at dksJ17_indexOf_0 10 rfl rfl)
theorem dJ17_indexOf_11 : decode cJ17_indexOf 11 = .ok (.invokestatic 183, 3) := dk_184 0 183 (dk_at dksJ17_indexOf_0 11 rfl rfl)
theorem dJ17_indexOf_14 : decode cJ17_indexOf 14 = .ok (.istore_n 3, 1) := dk_62 (dk_at dksJ17_indexOf_0 14 rfl rfl)
theorem dJ17_indexOf_15 : decode cJ17_indexOf 15 = .ok (.iload_n 2, 1) := dk_28 (dk_at dksJ17_indexOf_0 15 rfl rfl)
theorem dJ17_indexOf_16 : decode cJ17_indexOf 16 = .ok (.iload_n 3, 1) := dk_29 (dk_at dksJ17_indexOf_0 16 rfl rfl)
theorem dJ17_indexOf_17 : decode cJ17_indexOf 17 = .ok (.if_icmp .lt 5, 3) := dk_161 0 5 (dk_at dksJ17_indexOf_0 17 rfl rfl)
theorem dJ17_indexOf_20 : decode cJ17_indexOf 20 = .ok (.iconst (-1), 1) := dk_2 (dk_at dksJ17_indexOf_0 20 rfl rfl)
theorem dJ17_indexOf_21 : decode cJ17_indexOf 21 = .ok (.ireturn, 1) := dk_172 (dk_at dksJ17_indexOf_0 21 rfl rfl)
theorem dJ17_indexOf_22 : decode cJ17_indexOf 22 = .ok (.iload_n 1, 1) := dk_27 (dk_at dksJ17_indexOf_0 22 rfl rfl)
theorem dJ17_indexOf_23 : decode cJ17_indexOf 23 = .ok (.ldc 227, 2) := dk_18 227 (dk_at dksJ17_indexOf_1 0 rfl rfl)
theorem dJ17_indexOf_25 : decode cJ17_indexOf 25 = .ok (.if_icmp .ge 11, 3) := dk_162 0 11 (dk_at dksJ17_indexOf_1 2 rfl rfl)
theorem dJ17_indexOf_28 : decode cJ17_indexOf 28 = .ok (.aload_n 0, 1) := dk_42 (dk_at dksJ17_indexOf_1 5 rfl rfl)
theorem dJ17_indexOf_29 : decode cJ17_indexOf 29 = .ok (.iload_n 1, 1) := dk_27 (dk_at dksJ17_indexOf_1 6 rfl rfl)
theorem dJ17_indexOf_30 : decode cJ17_indexOf 30 = .ok (.iload_n 2, 1) := dk_28 (dk_at dksJ17_indexOf_1 7 rfl rfl)
theorem dJ17_indexOf_31 : decode cJ17_indexOf 31 = .ok (.iload_n 3, 1) := dk_29 (dk_at dksJ17_indexOf_1 8 rfl rfl)
theorem dJ17_indexOf_32 : decode cJ17_indexOf 32 = .ok (.invokestatic 228, 3) := dk_184 0 228 (dk_at dksJ17_indexOf_1 9 rfl rfl)
theorem dJ17_indexOf_35 : decode cJ17_indexOf 35 = .ok (.ireturn, 1) := dk_172 (dk_at dksJ17_indexOf_1 12 rfl rfl)
theorem dJ17_indexOf_36 : decode cJ17_indexOf 36 = .ok (.aload_n 0, 1) := dk_42 (dk_at dksJ17_indexOf_1 13 rfl rfl)
theorem dJ17_indexOf_37 : decode cJ17_indexOf 37 = .ok (.iload_n 1, 1) := dk_27 (dk_at dksJ17_indexOf_1 14 rfl rfl)
theorem dJ17_indexOf_38 : decode cJ17_indexOf 38 = .ok (.iload_n 2, 1) := dk_28 (dk_at dksJ17_indexOf_1 15 rfl rfl)
theorem dJ17_indexOf_39 : decode cJ17_indexOf 39 = .ok (.iload_n 3, 1) := dk_29 (dk_at dksJ17_indexOf_1 16 rfl rfl)
theorem dJ17_indexOf_40 : decode cJ17_indexOf 40 = .ok (.invokestatic 232, 3) := dk_184 0 232 (dk_at dksJ17_indexOf_1 17 rfl rfl)
theorem dJ17_indexOf_43 : decode cJ17_indexOf 43 = .ok (.ireturn, 1) := dk_172 (dk_at dksJ17_indexOf_1 20 rfl rfl)
abbrev cJ17_indexOfChar : ByteArray := prog_61_method_47_code
def yJ17_indexOfChar : MethodName := ⟨RJ17, "indexOfCha\x72", "([BIII)I"⟩
def dkwJ17_indexOfChar_0 : List UInt8 := [28, 29, 42, 184, 0, 96, 42, 27, 28, 29, 184, 0, 244, 172]
abbrev dktJ17_indexOfChar_0 : List UInt8 := dkwJ17_indexOfChar_0 ++ []
theorem dksJ17_indexOfChar_0 : cJ17_indexOfChar.data.toList.drop 0 = dktJ17_indexOfChar_0 := by decide +kernel
theorem dJ17_indexOfChar_0 : decode cJ17_indexOfChar 0 = .ok (.iload_n 2, 1) := dk_28 (dk_at dksJ17_indexOfChar_0 0 rfl rfl)
theorem dJ17_indexOfChar_1 : decode cJ17_indexOfChar 1 = .ok (.iload_n 3, 1) := dk_29 (dk_at dksJ17_indexOfChar_0 1 rfl rfl)
theorem dJ17_indexOfChar_2 : decode cJ17_indexOfChar 2 = .ok (.aload_n 0, 1) := dk_42 (dk_at dksJ17_indexOfChar_0 2 rfl rfl)
theorem dJ17_indexOfChar_3 : decode cJ17_indexOfChar 3 = .ok (.invokestatic 96, 3) := dk_184 0 96 (dk_at dksJ17_indexOfChar_0 3 rfl rfl)
theorem dJ17_indexOfChar_6 : decode cJ17_indexOfChar 6 = .ok (.aload_n 0, 1) := dk_42 (dk_at dksJ17_indexOfChar_0 6 rfl rfl)
theorem dJ17_indexOfChar_7 : decode cJ17_indexOfChar 7 = .ok (.iload_n 1, 1) := dk_27 (dk_at dksJ17_indexOfChar_0 7 rfl rfl)
theorem dJ17_indexOfChar_8 : decode cJ17_indexOfChar 8 = .ok (.iload_n 2, 1) := dk_28 (dk_at dksJ17_indexOfChar_0 8 rfl rfl)
theorem dJ17_indexOfChar_9 : decode cJ17_indexOfChar 9 = .ok (.iload_n 3, 1) := dk_29 (dk_at dksJ17_indexOfChar_0 9 rfl rfl)
theorem dJ17_indexOfChar_10 : decode cJ17_indexOfChar 10 = .ok (.invokestatic 244, 3) := dk_184 0 244 (dk_at dksJ17_indexOfChar_0 10 rfl rfl)
theorem dJ17_indexOfChar_13 : decode cJ17_indexOfChar 13 = .ok (.ireturn, 1) := dk_172 (dk_at dksJ17_indexOfChar_0 13 rfl rfl)
abbrev cJ17_checkBoundsBeginEnd : ByteArray := prog_61_method_93_code
def yJ17_checkBoundsBeginEnd : MethodName := ⟨RJ17, "checkBoundsBeginEnd", "(II[B)V"⟩
def dkwJ17_checkBoundsBeginEnd_0 : List UInt8 := [26, 27, 44, 184, 0, 48, 184, 0, 241, 177]
abbrev dktJ17_checkBoundsBeginEnd_0 : List UInt8 := dkwJ17_checkBoundsBeginEnd_0 ++ []
theorem dksJ17_checkBoundsBeginEnd_0 : cJ17_checkBoundsBeginEnd.data.toList.drop 0 = dktJ17_checkBoundsBeginEnd_0 := by decide +kernel
theorem dJ17_checkBoundsBeginEnd_0 : decode cJ17_checkBoundsBeginEnd 0 = .ok (.iload_n 0, 1) := dk_26 (dk_at dksJ17_checkBoundsBeginEnd_0 0 rfl rfl)
theorem dJ17_checkBoundsBeginEnd_1 : decode cJ17_checkBoundsBeginEnd 1 = .ok (.iload_n 1, 1) := dk_27 (dk_at dksJ17_checkBoundsBeginEnd_0 1 rfl rfl)
theorem dJ17_checkBoundsBeginEnd_2 : decode cJ17_checkBoundsBeginEnd 2 = .ok (.aload_n 2, 1) := dk_44 (dk_at dksJ17_checkBoundsBeginEnd_0 2 rfl rfl)
theorem dJ17_checkBoundsBeginEnd_3 : decode cJ17_checkBoundsBeginEnd 3 = .ok (.invokestatic 48, 3) := dk_184 0 48 (dk_at dksJ17_checkBoundsBeginEnd_0 3 rfl rfl)
theorem dJ17_checkBoundsBeginEnd_6 : decode cJ17_checkBoundsBeginEnd 6 = .ok (.invokestatic 241, 3) := dk_184 0 241 (dk_at dksJ17_checkBoundsBeginEnd_0 6 rfl rfl)
theorem dJ17_checkBoundsBeginEnd_9 : decode cJ17_checkBoundsBeginEnd 9 = .ok (.return_, 1) := dk_177 (dk_at dksJ17_checkBoundsBeginEnd_0 9 rfl rfl)
abbrev cJ17_indexOfCharUnsafe : ByteArray := prog_61_method_48_code
def yJ17_indexOfCharUnsafe : MethodName := ⟨RJ17, "indexOfCharUnsafe", "([BIII)I"⟩
def dkwJ17_indexOfCharUnsafe_1 : List UInt8 := [132, 4, 1, 167, 255, 234, 2, 172]
abbrev dktJ17_indexOfCharUnsafe_1 : List UInt8 := dkwJ17_indexOfCharUnsafe_1 ++ []
def dkwJ17_indexOfCharUnsafe_0 : List UInt8 := [28, 54, 4, 21, 4, 29, 162, 0, 22, 42, 21, 4, 184, 0, 71, 27, 160, 0, 6, 21, 4, 172]
abbrev dktJ17_indexOfCharUnsafe_0 : List UInt8 := dkwJ17_indexOfCharUnsafe_0 ++ dktJ17_indexOfCharUnsafe_1
theorem dksJ17_indexOfCharUnsafe_0 : cJ17_indexOfCharUnsafe.data.toList.drop 0 = dktJ17_indexOfCharUnsafe_0 := by decide +kernel
theorem dksJ17_indexOfCharUnsafe_1 : cJ17_indexOfCharUnsafe.data.toList.drop 22 = dktJ17_indexOfCharUnsafe_1 := dk_seg dksJ17_indexOfCharUnsafe_0 22 rfl rfl
theorem dJ17_indexOfCharUnsafe_0 : decode cJ17_indexOfCharUnsafe 0 = .ok (.iload_n 2, 1) := dk_28 (dk_at dksJ17_indexOfCharUnsafe_0 0 rfl rfl)
theorem dJ17_indexOfCharUnsafe_1 : decode cJ17_indexOfCharUnsafe 1 = .ok (.istore 4, 2) := dk_54 4 (dk_at dksJ17_indexOfCharUnsafe_0 1 rfl rfl)
theorem dJ17_indexOfCharUnsafe_3 : decode cJ17_indexOfCharUnsafe 3 = .ok (.iload 4, 2) := dk_21 4 (dk_at dksJ17_indexOfCharUnsafe_0 3 rfl rfl)
theorem dJ17_indexOfCharUnsafe_5 : decode cJ17_indexOfCharUnsafe 5 = .ok (.iload_n 3, 1) := dk_29 (dk_at dksJ17_indexOfCharUnsafe_0 5 rfl rfl)
theorem dJ17_indexOfCharUnsafe_6 : decode cJ17_indexOfCharUnsafe 6 = .ok (.if_icmp .ge 22, 3) := dk_162 0 22 (dk_at dksJ17_indexOfCharUnsafe_0 6 rfl rfl)
theorem dJ17_indexOfCharUnsafe_9 : decode cJ17_indexOfCharUnsafe 9 = .ok (.aload_n 0, 1) := dk_42 (dk_at dksJ17_indexOfCharUnsafe_0 9 rfl rfl)
theorem dJ17_indexOfCharUnsafe_10 : decode cJ17_indexOfCharUnsafe 10 = .ok (.iload 4, 2) := dk_21 4 (dk_at dksJ17_indexOfCharUnsafe_0 10 rfl rfl)
theorem dJ17_indexOfCharUnsafe_12 : decode cJ17_indexOfCharUnsafe 12 = .ok (.invokestatic 71, 3) := dk_184 0 71 (dk_at dksJ17_indexOfCharUnsafe_0 12 rfl rfl)
theorem dJ17_indexOfCharUnsafe_15 : decode cJ17_indexOfCharUnsafe 15 = .ok (.iload_n 1, 1) := dk_27 (dk_at dksJ17_indexOfCharUnsafe_0 15 rfl rfl)
theorem dJ17_indexOfCharUnsafe_16 : decode cJ17_indexOfCharUnsafe 16 = .ok (.if_icmp .ne 6, 3) := dk_160 0 6 (dk_at dksJ17_indexOfCharUnsafe_0 16 rfl rfl)
theorem dJ17_indexOfCharUnsafe_19 : decode cJ17_indexOfCharUnsafe 19 = .ok (.iload 4, 2) := dk_21 4 (dk_at dksJ17_indexOfCharUnsafe_0 19 rfl rfl)
theorem dJ17_indexOfCharUnsafe_21 : decode cJ17_indexOfCharUnsafe 21 = .ok (.ireturn, 1) := dk_172 (dk_at dksJ17_indexOfCharUnsafe_0 21 rfl rfl)
theorem dJ17_indexOfCharUnsafe_22 : decode cJ17_indexOfCharUnsafe 22 = .ok (.iinc 4 1, 3) := dk_132 4 1 (dk_at dksJ17_indexOfCharUnsafe_1 0 rfl rfl)
theorem dJ17_indexOfCharUnsafe_25 : decode cJ17_indexOfCharUnsafe 25 = .ok (.goto (-22), 3) := dk_167 255 234 (dk_at dksJ17_indexOfCharUnsafe_1 3 rfl rfl)
theorem dJ17_indexOfCharUnsafe_28 : decode cJ17_indexOfCharUnsafe 28 = .ok (.iconst (-1), 1) := dk_2 (dk_at dksJ17_indexOfCharUnsafe_1 6 rfl rfl)
theorem dJ17_indexOfCharUnsafe_29 : decode cJ17_indexOfCharUnsafe 29 = .ok (.ireturn, 1) := dk_172 (dk_at dksJ17_indexOfCharUnsafe_1 7 rfl rfl)
abbrev cJ17_indexOfSupplementary : ByteArray := prog_61_method_49_code
def yJ17_indexOfSupplementary : MethodName := ⟨RJ17, "indexOfSupplementary", "([BIII)I"⟩
def dkwJ17_indexOfSupplementary_3 : List UInt8 := [167, 255, 218, 2, 172]
abbrev dktJ17_indexOfSupplementary_3 : List UInt8 := dkwJ17_indexOfSupplementary_3 ++ []
def dkwJ17_indexOfSupplementary_2 : List UInt8 := [160, 0, 19, 42, 21, 6, 4, 96, 184, 0, 71, 21, 5, 160, 0, 6, 21, 6, 172, 132, 6, 1]
abbrev dktJ17_indexOfSupplementary_2 : List UInt8 := dkwJ17_indexOfSupplementary_2 ++ dktJ17_indexOfSupplementary_3
def dkwJ17_indexOfSupplementary_1 : List UInt8 := [184, 0, 96, 28, 54, 6, 21, 6, 29, 4, 100, 162, 0, 36, 42, 21, 6, 184, 0, 71, 21, 4]
abbrev dktJ17_indexOfSupplementary_1 : List UInt8 := dkwJ17_indexOfSupplementary_1 ++ dktJ17_indexOfSupplementary_2
def dkwJ17_indexOfSupplementary_0 : List UInt8 := [27, 184, 0, 164, 153, 0, 65, 27, 184, 0, 157, 54, 4, 27, 184, 0, 161, 54, 5, 28, 29, 42]
abbrev dktJ17_indexOfSupplementary_0 : List UInt8 := dkwJ17_indexOfSupplementary_0 ++ dktJ17_indexOfSupplementary_1
theorem dksJ17_indexOfSupplementary_0 : cJ17_indexOfSupplementary.data.toList.drop 0 = dktJ17_indexOfSupplementary_0 := by decide +kernel
theorem dksJ17_indexOfSupplementary_1 : cJ17_indexOfSupplementary.data.toList.drop 22 = dktJ17_indexOfSupplementary_1 := dk_seg dksJ17_indexOfSupplementary_0 22 rfl rfl
theorem dksJ17_indexOfSupplementary_2 : cJ17_indexOfSupplementary.data.toList.drop 44 = dktJ17_indexOfSupplementary_2 := dk_seg dksJ17_indexOfSupplementary_1 22 rfl rfl
theorem dksJ17_indexOfSupplementary_3 : cJ17_indexOfSupplementary.data.toList.drop 66 = dktJ17_indexOfSupplementary_3 := dk_seg dksJ17_indexOfSupplementary_2 22 rfl rfl
theorem dJ17_indexOfSupplementary_0 : decode cJ17_indexOfSupplementary 0 = .ok (.iload_n 1, 1) := dk_27 (dk_at dksJ17_indexOfSupplementary_0 0 rfl rfl)
theorem dJ17_indexOfSupplementary_1 : decode cJ17_indexOfSupplementary 1 = .ok (.invokestatic 164, 3) := dk_184 0 164 (dk_at dksJ17_indexOfSupplementary_0 1 rfl rfl)
theorem dJ17_indexOfSupplementary_4 : decode cJ17_indexOfSupplementary 4 = .ok (.ifCond .eq 65, 3) := dk_153 0 65 (dk_at dksJ17_indexOfSupplementary_0 4 rfl rfl)
theorem dJ17_indexOfSupplementary_7 : decode cJ17_indexOfSupplementary 7 = .ok (.iload_n 1, 1) := dk_27 (dk_at dksJ17_indexOfSupplementary_0 7 rfl rfl)
theorem dJ17_indexOfSupplementary_8 : decode cJ17_indexOfSupplementary 8 = .ok (.invokestatic 157, 3) := dk_184 0 157 (dk_at dksJ17_indexOfSupplementary_0 8 rfl rfl)
theorem dJ17_indexOfSupplementary_11 : decode cJ17_indexOfSupplementary 11 = .ok (.istore 4, 2) := dk_54 4 (dk_at dksJ17_indexOfSupplementary_0 11 rfl rfl)
theorem dJ17_indexOfSupplementary_13 : decode cJ17_indexOfSupplementary 13 = .ok (.iload_n 1, 1) := dk_27 (dk_at dksJ17_indexOfSupplementary_0 13 rfl rfl)
theorem dJ17_indexOfSupplementary_14 : decode cJ17_indexOfSupplementary 14 = .ok (.invokestatic 161, 3) := dk_184 0 161 (dk_at dksJ17_indexOfSupplementary_0 14 rfl rfl)
theorem dJ17_indexOfSupplementary_17 : decode cJ17_indexOfSupplementary 17 = .ok (.istore 5, 2) := dk_54 5 (dk_at dksJ17_indexOfSupplementary_0 17 rfl rfl)
theorem dJ17_indexOfSupplementary_19 : decode cJ17_indexOfSupplementary 19 = .ok (.iload_n 2, 1) := dk_28 (dk_at dksJ17_indexOfSupplementary_0 19 rfl rfl)
theorem dJ17_indexOfSupplementary_20 : decode cJ17_indexOfSupplementary 20 = .ok (.iload_n 3, 1) := dk_29 (dk_at dksJ17_indexOfSupplementary_0 20 rfl rfl)
theorem dJ17_indexOfSupplementary_21 : decode cJ17_indexOfSupplementary 21 = .ok (.aload_n 0, 1) := dk_42 (dk_at dksJ17_indexOfSupplementary_0 21 rfl rfl)
theorem dJ17_indexOfSupplementary_22 : decode cJ17_indexOfSupplementary 22 = .ok (.invokestatic 96, 3) := dk_184 0 96 (dk_at dksJ17_indexOfSupplementary_1 0 rfl rfl)
theorem dJ17_indexOfSupplementary_25 : decode cJ17_indexOfSupplementary 25 = .ok (.iload_n 2, 1) := dk_28 (dk_at dksJ17_indexOfSupplementary_1 3 rfl rfl)
theorem dJ17_indexOfSupplementary_26 : decode cJ17_indexOfSupplementary 26 = .ok (.istore 6, 2) := dk_54 6 (dk_at dksJ17_indexOfSupplementary_1 4 rfl rfl)
theorem dJ17_indexOfSupplementary_28 : decode cJ17_indexOfSupplementary 28 = .ok (.iload 6, 2) := dk_21 6 (dk_at dksJ17_indexOfSupplementary_1 6 rfl rfl)
theorem dJ17_indexOfSupplementary_30 : decode cJ17_indexOfSupplementary 30 = .ok (.iload_n 3, 1) := dk_29 (dk_at dksJ17_indexOfSupplementary_1 8 rfl rfl)
theorem dJ17_indexOfSupplementary_31 : decode cJ17_indexOfSupplementary 31 = .ok (.iconst 1, 1) := dk_4 (dk_at dksJ17_indexOfSupplementary_1 9 rfl rfl)
theorem dJ17_indexOfSupplementary_32 : decode cJ17_indexOfSupplementary 32 = .ok (.isub, 1) := dk_100 (dk_at dksJ17_indexOfSupplementary_1 10 rfl rfl)
theorem dJ17_indexOfSupplementary_33 : decode cJ17_indexOfSupplementary 33 = .ok (.if_icmp .ge 36, 3) := dk_162 0 36 (dk_at dksJ17_indexOfSupplementary_1 11 rfl rfl)
theorem dJ17_indexOfSupplementary_36 : decode cJ17_indexOfSupplementary 36 = .ok (.aload_n 0, 1) := dk_42 (dk_at dksJ17_indexOfSupplementary_1 14 rfl rfl)
theorem dJ17_indexOfSupplementary_37 : decode cJ17_indexOfSupplementary 37 = .ok (.iload 6, 2) := dk_21 6 (dk_at dksJ17_indexOfSupplementary_1 15 rfl rfl)
theorem dJ17_indexOfSupplementary_39 : decode cJ17_indexOfSupplementary 39 = .ok (.invokestatic 71, 3) := dk_184 0 71 (dk_at dksJ17_indexOfSupplementary_1 17 rfl rfl)
theorem dJ17_indexOfSupplementary_42 : decode cJ17_indexOfSupplementary 42 = .ok (.iload 4, 2) := dk_21 4 (dk_at dksJ17_indexOfSupplementary_1 20 rfl rfl)
theorem dJ17_indexOfSupplementary_44 : decode cJ17_indexOfSupplementary 44 = .ok (.if_icmp .ne 19, 3) := dk_160 0 19 (dk_at dksJ17_indexOfSupplementary_2 0 rfl rfl)
theorem dJ17_indexOfSupplementary_47 : decode cJ17_indexOfSupplementary 47 = .ok (.aload_n 0, 1) := dk_42 (dk_at dksJ17_indexOfSupplementary_2 3 rfl rfl)
theorem dJ17_indexOfSupplementary_48 : decode cJ17_indexOfSupplementary 48 = .ok (.iload 6, 2) := dk_21 6 (dk_at dksJ17_indexOfSupplementary_2 4 rfl rfl)
theorem dJ17_indexOfSupplementary_50 : decode cJ17_indexOfSupplementary 50 = .ok (.iconst 1, 1) := dk_4 (dk_at dksJ17_indexOfSupplementary_2 6 rfl rfl)
theorem dJ17_indexOfSupplementary_51 : decode cJ17_indexOfSupplementary 51 = .ok (.iadd, 1) := dk_96 (dk_at dksJ17_indexOfSupplementary_2 7 rfl rfl)
theorem dJ17_indexOfSupplementary_52 : decode cJ17_indexOfSupplementary 52 = .ok (.invokestatic 71, 3) := dk_184 0 71 (dk_at dksJ17_indexOfSupplementary_2 8 rfl rfl)
theorem dJ17_indexOfSupplementary_55 : decode cJ17_indexOfSupplementary 55 = .ok (.iload 5, 2) := dk_21 5 (dk_at dksJ17_indexOfSupplementary_2 11 rfl rfl)
theorem dJ17_indexOfSupplementary_57 : decode cJ17_indexOfSupplementary 57 = .ok (.if_icmp .ne 6, 3) := dk_160 0 6 (dk_at dksJ17_indexOfSupplementary_2 13 rfl rfl)
theorem dJ17_indexOfSupplementary_60 : decode cJ17_indexOfSupplementary 60 = .ok (.iload 6, 2) := dk_21 6 (dk_at dksJ17_indexOfSupplementary_2 16 rfl rfl)
theorem dJ17_indexOfSupplementary_62 : decode cJ17_indexOfSupplementary 62 = .ok (.ireturn, 1) := dk_172 (dk_at dksJ17_indexOfSupplementary_2 18 rfl rfl)
theorem dJ17_indexOfSupplementary_63 : decode cJ17_indexOfSupplementary 63 = .ok (.iinc 6 1, 3) := dk_132 6 1 (dk_at dksJ17_indexOfSupplementary_2 19 rfl rfl)
theorem dJ17_indexOfSupplementary_66 : decode cJ17_indexOfSupplementary 66 = .ok (.goto (-38), 3) := dk_167 255 218 (dk_at dksJ17_indexOfSupplementary_3 0 rfl rfl)
theorem dJ17_indexOfSupplementary_69 : decode cJ17_indexOfSupplementary 69 = .ok (.iconst (-1), 1) := dk_2 (dk_at dksJ17_indexOfSupplementary_3 3 rfl rfl)
theorem dJ17_indexOfSupplementary_70 : decode cJ17_indexOfSupplementary 70 = .ok (.ireturn, 1) := dk_172 (dk_at dksJ17_indexOfSupplementary_3 4 rfl rfl)
theorem q565 : (Jvm.Cond.initialized "java/lang/StringUTF16") ∈ lw_all := lw_g (lw_at lw_m1 58 rfl) rfl
theorem q3542 : (Jvm.Cond.static ({ cls := "java/lang/StringUTF16", name := "charAt", desc := "([BI)C" } : Jvm.MethodName)) ∈ lw_all := lw_g (lw_at lw_m13 155 rfl) rfl
theorem q3543 : (Jvm.Cond.code ({ cls := "java/lang/StringUTF16", name := "charAt", desc := "([BI)C" } : Jvm.MethodName) prog_61_method_83_code (2 : Nat) (Option.some Jvm.ClassFile.FieldType.char)) ∈ lw_all := lw_g (lw_at lw_m13 156 rfl) rfl
theorem q3544 : (Jvm.Cond.methodLink "java/lang/StringUTF16" (67 : Nat) ({ cls := "java/lang/StringUTF16", name := "checkIndex", desc := "(I[B)V" } : Jvm.MethodName)) ∈ lw_all := lw_g (lw_at lw_m13 157 rfl) rfl
theorem q3545 : (Jvm.Cond.static ({ cls := "java/lang/StringUTF16", name := "checkIndex", desc := "(I[B)V" } : Jvm.MethodName)) ∈ lw_all := lw_g (lw_at lw_m13 158 rfl) rfl
theorem q3546 : (Jvm.Cond.code ({ cls := "java/lang/StringUTF16", name := "checkIndex", desc := "(I[B)V" } : Jvm.MethodName) prog_61_method_91_code (2 : Nat) (Option.none : Option Jvm.ClassFile.FieldType)) ∈ lw_all := lw_g (lw_at lw_m13 159 rfl) rfl
theorem q3547 : (Jvm.Cond.methodLink "java/lang/StringUTF16" (48 : Nat) ({ cls := "java/lang/StringUTF16", name := "length", desc := "([B)I" } : Jvm.MethodName)) ∈ lw_all := lw_g (lw_at lw_m13 160 rfl) rfl
theorem q3548 : (Jvm.Cond.static ({ cls := "java/lang/StringUTF16", name := "length", desc := "([B)I" } : Jvm.MethodName)) ∈ lw_all := lw_g (lw_at lw_m13 161 rfl) rfl
theorem q3549 : (Jvm.Cond.code ({ cls := "java/lang/StringUTF16", name := "length", desc := "([B)I" } : Jvm.MethodName) prog_61_method_6_code (1 : Nat) (Option.some Jvm.ClassFile.FieldType.int)) ∈ lw_all := lw_g (lw_at lw_m13 162 rfl) rfl
theorem q3550 : (Jvm.Cond.methodLink "java/lang/StringUTF16" (414 : Nat) ({ cls := "java/lang/String", name := "checkIndex", desc := "(II)V" } : Jvm.MethodName)) ∈ lw_all := lw_g (lw_at lw_m13 163 rfl) rfl
theorem q3551 : (Jvm.Cond.methodLink "java/lang/StringUTF16" (71 : Nat) ({ cls := "java/lang/StringUTF16", name := "getCha\x72", desc := "([BI)C" } : Jvm.MethodName)) ∈ lw_all := lw_g (lw_at lw_m13 164 rfl) rfl
theorem q3552 : (Jvm.Cond.static ({ cls := "java/lang/StringUTF16", name := "getCha\x72", desc := "([BI)C" } : Jvm.MethodName)) ∈ lw_all := lw_g (lw_at lw_m13 165 rfl) rfl
theorem q3553 : (Jvm.Cond.code ({ cls := "java/lang/StringUTF16", name := "getCha\x72", desc := "([BI)C" } : Jvm.MethodName) prog_61_method_5_code (2 : Nat) (Option.some Jvm.ClassFile.FieldType.char)) ∈ lw_all := lw_g (lw_at lw_m13 166 rfl) rfl
theorem q3554 : (Jvm.Cond.fieldLink "java/lang/StringUTF16" (44 : Nat) "java/lang/StringUTF16" "$assertionsDisabled" "Z") ∈ lw_all := lw_g (lw_at lw_m13 167 rfl) rfl
theorem q3555 : (Jvm.Cond.laysStatic "java/lang/StringUTF16" "$assertionsDisabled" "Z") ∈ lw_tbl := lw_at lw_m13 168 rfl
theorem q3556 : (Jvm.Cond.fieldLink "java/lang/StringUTF16" (59 : Nat) "java/lang/StringUTF16" "HI_BYTE_SHIFT" "I") ∈ lw_all := lw_g (lw_at lw_m13 169 rfl) rfl
theorem q3557 : (Jvm.Cond.laysStatic "java/lang/StringUTF16" "HI_BYTE_SHIFT" "I") ∈ lw_tbl := lw_at lw_m13 170 rfl
theorem q3558 : (Jvm.Cond.fieldLink "java/lang/StringUTF16" (63 : Nat) "java/lang/StringUTF16" "LO_BYTE_SHIFT" "I") ∈ lw_all := lw_g (lw_at lw_m13 171 rfl) rfl
theorem q3559 : (Jvm.Cond.laysStatic "java/lang/StringUTF16" "LO_BYTE_SHIFT" "I") ∈ lw_tbl := lw_at lw_m13 172 rfl
theorem q5474 : (Jvm.Cond.static ({ cls := "java/lang/StringUTF16", name := "indexOf", desc := "([BIII)I" } : Jvm.MethodName)) ∈ lw_all := lw_g (lw_at lw_m21 167 rfl) rfl
theorem q5475 : (Jvm.Cond.code ({ cls := "java/lang/StringUTF16", name := "indexOf", desc := "([BIII)I" } : Jvm.MethodName) prog_61_method_40_code (4 : Nat) (Option.some Jvm.ClassFile.FieldType.int)) ∈ lw_all := lw_g (lw_at lw_m21 168 rfl) rfl
theorem q5476 : (Jvm.Cond.methodLink "java/lang/StringUTF16" (224 : Nat) ({ cls := "java/lang/Math", name := "max", desc := "(II)I" } : Jvm.MethodName)) ∈ lw_all := lw_g (lw_at lw_m21 169 rfl) rfl
theorem q5477 : (Jvm.Cond.methodLink "java/lang/StringUTF16" (183 : Nat) ({ cls := "java/lang/Math", name := "min", desc := "(II)I" } : Jvm.MethodName)) ∈ lw_all := lw_g (lw_at lw_m21 170 rfl) rfl
theorem q5478 : (Jvm.Cond.constant "java/lang/StringUTF16" (227 : Nat) (65536 : Int32)) ∈ lw_all := lw_g (lw_at lw_m21 171 rfl) rfl
theorem q5479 : (Jvm.Cond.methodLink "java/lang/StringUTF16" (228 : Nat) ({ cls := "java/lang/StringUTF16", name := "indexOfCha\x72", desc := "([BIII)I" } : Jvm.MethodName)) ∈ lw_all := lw_g (lw_at lw_m21 172 rfl) rfl
theorem q5480 : (Jvm.Cond.static ({ cls := "java/lang/StringUTF16", name := "indexOfCha\x72", desc := "([BIII)I" } : Jvm.MethodName)) ∈ lw_all := lw_g (lw_at lw_m21 173 rfl) rfl
theorem q5481 : (Jvm.Cond.code ({ cls := "java/lang/StringUTF16", name := "indexOfCha\x72", desc := "([BIII)I" } : Jvm.MethodName) prog_61_method_47_code (4 : Nat) (Option.some Jvm.ClassFile.FieldType.int)) ∈ lw_all := lw_g (lw_at lw_m21 174 rfl) rfl
theorem q5482 : (Jvm.Cond.methodLink "java/lang/StringUTF16" (96 : Nat) ({ cls := "java/lang/StringUTF16", name := "checkBoundsBeginEnd", desc := "(II[B)V" } : Jvm.MethodName)) ∈ lw_all := lw_g (lw_at lw_m21 175 rfl) rfl
theorem q5483 : (Jvm.Cond.static ({ cls := "java/lang/StringUTF16", name := "checkBoundsBeginEnd", desc := "(II[B)V" } : Jvm.MethodName)) ∈ lw_all := lw_g (lw_at lw_m21 176 rfl) rfl
theorem q5484 : (Jvm.Cond.code ({ cls := "java/lang/StringUTF16", name := "checkBoundsBeginEnd", desc := "(II[B)V" } : Jvm.MethodName) prog_61_method_93_code (3 : Nat) (Option.none : Option Jvm.ClassFile.FieldType)) ∈ lw_all := lw_g (lw_at lw_m21 177 rfl) rfl
theorem q5485 : (Jvm.Cond.methodLink "java/lang/StringUTF16" (241 : Nat) ({ cls := "java/lang/String", name := "checkBoundsBeginEnd", desc := "(III)V" } : Jvm.MethodName)) ∈ lw_all := lw_g (lw_at lw_m21 178 rfl) rfl
theorem q5491 : (Jvm.Cond.methodLink "java/lang/StringUTF16" (244 : Nat) ({ cls := "java/lang/StringUTF16", name := "indexOfCharUnsafe", desc := "([BIII)I" } : Jvm.MethodName)) ∈ lw_all := lw_g (lw_at lw_m21 184 rfl) rfl
theorem q5492 : (Jvm.Cond.static ({ cls := "java/lang/StringUTF16", name := "indexOfCharUnsafe", desc := "([BIII)I" } : Jvm.MethodName)) ∈ lw_all := lw_g (lw_at lw_m21 185 rfl) rfl
theorem q5493 : (Jvm.Cond.code ({ cls := "java/lang/StringUTF16", name := "indexOfCharUnsafe", desc := "([BIII)I" } : Jvm.MethodName) prog_61_method_48_code (5 : Nat) (Option.some Jvm.ClassFile.FieldType.int)) ∈ lw_all := lw_g (lw_at lw_m21 186 rfl) rfl
theorem q5494 : (Jvm.Cond.methodLink "java/lang/StringUTF16" (232 : Nat) ({ cls := "java/lang/StringUTF16", name := "indexOfSupplementary", desc := "([BIII)I" } : Jvm.MethodName)) ∈ lw_all := lw_g (lw_at lw_m21 187 rfl) rfl
theorem q5495 : (Jvm.Cond.static ({ cls := "java/lang/StringUTF16", name := "indexOfSupplementary", desc := "([BIII)I" } : Jvm.MethodName)) ∈ lw_all := lw_g (lw_at lw_m21 188 rfl) rfl
theorem q5496 : (Jvm.Cond.code ({ cls := "java/lang/StringUTF16", name := "indexOfSupplementary", desc := "([BIII)I" } : Jvm.MethodName) prog_61_method_49_code (7 : Nat) (Option.some Jvm.ClassFile.FieldType.int)) ∈ lw_all := lw_g (lw_at lw_m21 189 rfl) rfl
theorem q5497 : (Jvm.Cond.methodLink "java/lang/StringUTF16" (164 : Nat) ({ cls := "java/lang/Characte\x72", name := "isValidCodePoint", desc := "(I)Z" } : Jvm.MethodName)) ∈ lw_all := lw_g (lw_at lw_m21 190 rfl) rfl
theorem q5500 : (Jvm.Cond.methodLink "java/lang/StringUTF16" (157 : Nat) ({ cls := "java/lang/Characte\x72", name := "highSurrogate", desc := "(I)C" } : Jvm.MethodName)) ∈ lw_all := lw_g (lw_at lw_m21 193 rfl) rfl
theorem q5504 : (Jvm.Cond.methodLink "java/lang/StringUTF16" (161 : Nat) ({ cls := "java/lang/Characte\x72", name := "lowSurrogate", desc := "(I)C" } : Jvm.MethodName)) ∈ lw_all := lw_g (lw_at lw_m21 197 rfl) rfl

/-! java/lang/Character -/
set_option maxRecDepth 100000
def RJ18 : String := "java/lang/Characte\x72"
abbrev cJ18_isValidCodePoint : ByteArray := prog_47_method_11_code
def yJ18_isValidCodePoint : MethodName := ⟨RJ18, "isValidCodePoint", "(I)Z"⟩
def dkwJ18_isValidCodePoint_0 : List UInt8 := [26, 16, 16, 124, 60, 27, 16, 17, 162, 0, 7, 4, 167, 0, 4, 3, 172]
abbrev dktJ18_isValidCodePoint_0 : List UInt8 := dkwJ18_isValidCodePoint_0 ++ []
theorem dksJ18_isValidCodePoint_0 : cJ18_isValidCodePoint.data.toList.drop 0 = dktJ18_isValidCodePoint_0 := by decide +kernel
theorem dJ18_isValidCodePoint_0 : decode cJ18_isValidCodePoint 0 = .ok (.iload_n 0, 1) := dk_26 (dk_at dksJ18_isValidCodePoint_0 0 rfl rfl)
theorem dJ18_isValidCodePoint_1 : decode cJ18_isValidCodePoint 1 = .ok (.bipush 16, 2) := dk_16 16 (dk_at dksJ18_isValidCodePoint_0 1 rfl rfl)
theorem dJ18_isValidCodePoint_3 : decode cJ18_isValidCodePoint 3 = .ok (.iushr, 1) := dk_124 (dk_at dksJ18_isValidCodePoint_0 3 rfl rfl)
theorem dJ18_isValidCodePoint_4 : decode cJ18_isValidCodePoint 4 = .ok (.istore_n 1, 1) := dk_60 (dk_at dksJ18_isValidCodePoint_0 4 rfl rfl)
theorem dJ18_isValidCodePoint_5 : decode cJ18_isValidCodePoint 5 = .ok (.iload_n 1, 1) := dk_27 (dk_at dksJ18_isValidCodePoint_0 5 rfl rfl)
theorem dJ18_isValidCodePoint_6 : decode cJ18_isValidCodePoint 6 = .ok (.bipush 17, 2) := dk_16 17 (dk_at dksJ18_isValidCodePoint_0 6 rfl rfl)
theorem dJ18_isValidCodePoint_8 : decode cJ18_isValidCodePoint 8 = .ok (.if_icmp .ge 7, 3) := dk_162 0 7 (dk_at dksJ18_isValidCodePoint_0 8 rfl rfl)
theorem dJ18_isValidCodePoint_11 : decode cJ18_isValidCodePoint 11 = .ok (.iconst 1, 1) := dk_4 (dk_at dksJ18_isValidCodePoint_0 11 rfl rfl)
theorem dJ18_isValidCodePoint_12 : decode cJ18_isValidCodePoint 12 = .ok (.goto 4, 3) := dk_167 0 4 (dk_at dksJ18_isValidCodePoint_0 12 rfl rfl)
theorem dJ18_isValidCodePoint_15 : decode cJ18_isValidCodePoint 15 = .ok (.iconst 0, 1) := dk_3 (dk_at dksJ18_isValidCodePoint_0 15 rfl rfl)
theorem dJ18_isValidCodePoint_16 : decode cJ18_isValidCodePoint 16 = .ok (.ireturn, 1) := dk_172 (dk_at dksJ18_isValidCodePoint_0 16 rfl rfl)
abbrev cJ18_highSurrogate : ByteArray := prog_47_method_28_code
def yJ18_highSurrogate : MethodName := ⟨RJ18, "highSurrogate", "(I)C"⟩
def dkwJ18_highSurrogate_0 : List UInt8 := [26, 16, 10, 124, 18, 110, 96, 146, 172]
abbrev dktJ18_highSurrogate_0 : List UInt8 := dkwJ18_highSurrogate_0 ++ []
theorem dksJ18_highSurrogate_0 : cJ18_highSurrogate.data.toList.drop 0 = dktJ18_highSurrogate_0 := by decide +kernel
theorem dJ18_highSurrogate_0 : decode cJ18_highSurrogate 0 = .ok (.iload_n 0, 1) := dk_26 (dk_at dksJ18_highSurrogate_0 0 rfl rfl)
theorem dJ18_highSurrogate_1 : decode cJ18_highSurrogate 1 = .ok (.bipush 10, 2) := dk_16 10 (dk_at dksJ18_highSurrogate_0 1 rfl rfl)
theorem dJ18_highSurrogate_3 : decode cJ18_highSurrogate 3 = .ok (.iushr, 1) := dk_124 (dk_at dksJ18_highSurrogate_0 3 rfl rfl)
theorem dJ18_highSurrogate_4 : decode cJ18_highSurrogate 4 = .ok (.ldc 110, 2) := dk_18 110 (dk_at dksJ18_highSurrogate_0 4 rfl rfl)
theorem dJ18_highSurrogate_6 : decode cJ18_highSurrogate 6 = .ok (.iadd, 1) := dk_96 (dk_at dksJ18_highSurrogate_0 6 rfl rfl)
theorem dJ18_highSurrogate_7 : decode cJ18_highSurrogate 7 = .ok (.i2c, 1) := dk_146 (dk_at dksJ18_highSurrogate_0 7 rfl rfl)
theorem dJ18_highSurrogate_8 : decode cJ18_highSurrogate 8 = .ok (.ireturn, 1) := dk_172 (dk_at dksJ18_highSurrogate_0 8 rfl rfl)
abbrev cJ18_lowSurrogate : ByteArray := prog_47_method_29_code
def yJ18_lowSurrogate : MethodName := ⟨RJ18, "lowSurrogate", "(I)C"⟩
def dkwJ18_lowSurrogate_0 : List UInt8 := [26, 17, 3, 255, 126, 18, 76, 96, 146, 172]
abbrev dktJ18_lowSurrogate_0 : List UInt8 := dkwJ18_lowSurrogate_0 ++ []
theorem dksJ18_lowSurrogate_0 : cJ18_lowSurrogate.data.toList.drop 0 = dktJ18_lowSurrogate_0 := by decide +kernel
theorem dJ18_lowSurrogate_0 : decode cJ18_lowSurrogate 0 = .ok (.iload_n 0, 1) := dk_26 (dk_at dksJ18_lowSurrogate_0 0 rfl rfl)
theorem dJ18_lowSurrogate_1 : decode cJ18_lowSurrogate 1 = .ok (.sipush 1023, 3) := dk_17 3 255 (dk_at dksJ18_lowSurrogate_0 1 rfl rfl)
theorem dJ18_lowSurrogate_4 : decode cJ18_lowSurrogate 4 = .ok (.iand, 1) := dk_126 (dk_at dksJ18_lowSurrogate_0 4 rfl rfl)
theorem dJ18_lowSurrogate_5 : decode cJ18_lowSurrogate 5 = .ok (.ldc 76, 2) := dk_18 76 (dk_at dksJ18_lowSurrogate_0 5 rfl rfl)
theorem dJ18_lowSurrogate_7 : decode cJ18_lowSurrogate 7 = .ok (.iadd, 1) := dk_96 (dk_at dksJ18_lowSurrogate_0 7 rfl rfl)
theorem dJ18_lowSurrogate_8 : decode cJ18_lowSurrogate 8 = .ok (.i2c, 1) := dk_146 (dk_at dksJ18_lowSurrogate_0 8 rfl rfl)
theorem dJ18_lowSurrogate_9 : decode cJ18_lowSurrogate 9 = .ok (.ireturn, 1) := dk_172 (dk_at dksJ18_lowSurrogate_0 9 rfl rfl)
theorem q566 : (Jvm.Cond.initialized "java/lang/Characte\x72") ∈ lw_all := lw_g (lw_at lw_m1 59 rfl) rfl
theorem q5498 : (Jvm.Cond.static ({ cls := "java/lang/Characte\x72", name := "isValidCodePoint", desc := "(I)Z" } : Jvm.MethodName)) ∈ lw_all := lw_g (lw_at lw_m21 191 rfl) rfl
theorem q5499 : (Jvm.Cond.code ({ cls := "java/lang/Characte\x72", name := "isValidCodePoint", desc := "(I)Z" } : Jvm.MethodName) prog_47_method_11_code (2 : Nat) (Option.some Jvm.ClassFile.FieldType.boolean)) ∈ lw_all := lw_g (lw_at lw_m21 192 rfl) rfl
theorem q5501 : (Jvm.Cond.static ({ cls := "java/lang/Characte\x72", name := "highSurrogate", desc := "(I)C" } : Jvm.MethodName)) ∈ lw_all := lw_g (lw_at lw_m21 194 rfl) rfl
theorem q5502 : (Jvm.Cond.code ({ cls := "java/lang/Characte\x72", name := "highSurrogate", desc := "(I)C" } : Jvm.MethodName) prog_47_method_28_code (1 : Nat) (Option.some Jvm.ClassFile.FieldType.char)) ∈ lw_all := lw_g (lw_at lw_m21 195 rfl) rfl
theorem q5503 : (Jvm.Cond.constant "java/lang/Characte\x72" (110 : Nat) (55232 : Int32)) ∈ lw_all := lw_g (lw_at lw_m21 196 rfl) rfl
theorem q5505 : (Jvm.Cond.static ({ cls := "java/lang/Characte\x72", name := "lowSurrogate", desc := "(I)C" } : Jvm.MethodName)) ∈ lw_all := lw_g (lw_at lw_m21 198 rfl) rfl
theorem q5506 : (Jvm.Cond.code ({ cls := "java/lang/Characte\x72", name := "lowSurrogate", desc := "(I)C" } : Jvm.MethodName) prog_47_method_29_code (1 : Nat) (Option.some Jvm.ClassFile.FieldType.char)) ∈ lw_all := lw_g (lw_at lw_m21 199 rfl) rfl
theorem q5507 : (Jvm.Cond.constant "java/lang/Characte\x72" (76 : Nat) (56320 : Int32)) ∈ lw_all := lw_g (lw_at lw_m21 200 rfl) rfl

/-! java/lang/ArithmeticException -/
set_option maxRecDepth 100000
def RJ19 : String := "java/lang/ArithmeticException"
def TJ19 : u_T := fun k => match k with
  | 0 => ("java/lang/Throwable", "backtrace", "Ljava/lang/Object;", false)
  | 1 => ("java/lang/Throwable", "detailMessage", "Ljava/lang/String;", false)
  | 2 => ("java/lang/Throwable", "cause", "Ljava/lang/Throwable;", false)
  | 3 => ("java/lang/Throwable", "stackTrace", "[Ljava/lang/StackTraceElement;", false)
  | 4 => ("java/lang/Throwable", "depth", "I", false)
  | _ => ("java/lang/Throwable", "suppressedExceptions", "Ljava/util/List;", false)
def tyJ19 : Nat → FieldType := fun k => match k with
  | 0 => .object "java/lang/Object"
  | 1 => .object "java/lang/String"
  | 2 => .object "java/lang/Throwable"
  | 3 => .array (.object "java/lang/StackTraceElement")
  | 4 => .int
  | _ => .object "java/util/List"
abbrev wsJ190 : List Cond := u_ws RJ19 TJ19 6
theorem nmJ19 : ∀ a, a < 6 → ∀ b, b < 6 → a ≠ b → (TJ19 a).2.1 ≠ (TJ19 b).2.1 := by decide +kernel
theorem tyJ19_ok : ∀ k, k < 6 → parseFieldDescriptor (TJ19 k).2.2.1 = some (tyJ19 k) := by decide +kernel
abbrev cJ19_init : ByteArray := prog_44_method_2_code
def yJ19_init : MethodName := ⟨RJ19, "<init>", "(Ljava/lang/String;)V"⟩
def dkwJ19_init_0 : List UInt8 := [42, 43, 183, 0, 7, 177]
abbrev dktJ19_init_0 : List UInt8 := dkwJ19_init_0 ++ []
theorem dksJ19_init_0 : cJ19_init.data.toList.drop 0 = dktJ19_init_0 := by decide +kernel
theorem dJ19_init_0 : decode cJ19_init 0 = .ok (.aload_n 0, 1) := dk_42 (dk_at dksJ19_init_0 0 rfl rfl)
theorem dJ19_init_1 : decode cJ19_init 1 = .ok (.aload_n 1, 1) := dk_43 (dk_at dksJ19_init_0 1 rfl rfl)
theorem dJ19_init_2 : decode cJ19_init 2 = .ok (.invokespecial 7, 3) := dk_183 0 7 (dk_at dksJ19_init_0 2 rfl rfl)
theorem dJ19_init_5 : decode cJ19_init 5 = .ok (.return_, 1) := dk_177 (dk_at dksJ19_init_0 5 rfl rfl)
abbrev cJ19_init_2 : ByteArray := prog_44_method_1_code
def yJ19_init_2 : MethodName := ⟨RJ19, "<init>", "()V"⟩
theorem dJ19_init_2_0 : decode cJ19_init_2 0 = .ok (.aload_n 0, 1) := by decide +kernel
theorem dJ19_init_2_1 : decode cJ19_init_2 1 = .ok (.invokespecial 1, 3) := by decide +kernel
theorem dJ19_init_2_4 : decode cJ19_init_2 4 = .ok (.return_, 1) := by decide +kernel
theorem q567 : (Jvm.Cond.initialized "java/lang/ArithmeticException") ∈ lw_all := lw_g (lw_at lw_m1 60 rfl) rfl
theorem q1184 : (Jvm.Cond.selects "java/lang/ArithmeticException" ({ cls := "java/lang/Throwable", name := "fillInStackTrace", desc := "()Ljava/lang/Throwable;" } : Jvm.MethodName) ({ cls := "java/lang/Throwable", name := "fillInStackTrace", desc := "()Ljava/lang/Throwable;" } : Jvm.MethodName)) ∈ lw_all := lw_g (lw_at lw_m3 197 rfl) rfl
theorem q3593 : (Jvm.Cond.instantiable "java/lang/ArithmeticException" (6 : Nat)) ∈ lw_all := lw_g (lw_at lw_m13 206 rfl) rfl
theorem q3594 : (Jvm.Cond.instanceMethod ({ cls := "java/lang/ArithmeticException", name := "<init>", desc := "(Ljava/lang/String;)V" } : Jvm.MethodName)) ∈ lw_all := lw_g (lw_at lw_m13 207 rfl) rfl
theorem q3595 : (Jvm.Cond.code ({ cls := "java/lang/ArithmeticException", name := "<init>", desc := "(Ljava/lang/String;)V" } : Jvm.MethodName) prog_44_method_2_code (2 : Nat) (Option.none : Option Jvm.ClassFile.FieldType)) ∈ lw_all := lw_g (lw_at lw_m13 208 rfl) rfl
theorem q3596 : (Jvm.Cond.methodLink "java/lang/ArithmeticException" (7 : Nat) ({ cls := "java/lang/RuntimeException", name := "<init>", desc := "(Ljava/lang/String;)V" } : Jvm.MethodName)) ∈ lw_all := lw_g (lw_at lw_m13 209 rfl) rfl
theorem q3597 : (Jvm.Cond.lays "java/lang/ArithmeticException" "java/lang/Throwable" "backtrace" "Ljava/lang/Object;") ∈ lw_all := lw_g (lw_at lw_m13 210 rfl) rfl
theorem q3598 : (Jvm.Cond.lays "java/lang/ArithmeticException" "java/lang/Throwable" "detailMessage" "Ljava/lang/String;") ∈ lw_all := lw_g (lw_at lw_m13 211 rfl) rfl
theorem q3599 : (Jvm.Cond.lays "java/lang/ArithmeticException" "java/lang/Throwable" "cause" "Ljava/lang/Throwable;") ∈ lw_all := lw_g (lw_at lw_m13 212 rfl) rfl
theorem q3600 : (Jvm.Cond.lays "java/lang/ArithmeticException" "java/lang/Throwable" "stackTrace" "[Ljava/lang/StackTraceElement;") ∈ lw_all := lw_g (lw_at lw_m13 213 rfl) rfl
theorem q3601 : (Jvm.Cond.lays "java/lang/ArithmeticException" "java/lang/Throwable" "depth" "I") ∈ lw_all := lw_g (lw_at lw_m13 214 rfl) rfl
theorem q3602 : (Jvm.Cond.lays "java/lang/ArithmeticException" "java/lang/Throwable" "suppressedExceptions" "Ljava/util/List;") ∈ lw_all := lw_g (lw_at lw_m13 215 rfl) rfl
theorem q3603 : (Jvm.Cond.superclass "java/lang/ArithmeticException" "java/lang/RuntimeException") ∈ lw_all := lw_g (lw_at lw_m13 216 rfl) rfl
theorem q3604 : (Jvm.Cond.castable "java/lang/ArithmeticException" "java/lang/ArithmeticException") ∈ lw_tbl := lw_at lw_m13 217 rfl
theorem q3605 : (Jvm.Cond.selects "java/lang/ArithmeticException" ({ cls := "java/lang/Throwable", name := "fillInStackTrace", desc := "(I)Ljava/lang/Throwable;" } : Jvm.MethodName) ({ cls := "java/lang/Throwable", name := "fillInStackTrace", desc := "(I)Ljava/lang/Throwable;" } : Jvm.MethodName)) ∈ lw_all := lw_g (lw_at lw_m13 218 rfl) rfl
theorem q3651 : (Jvm.Cond.instanceMethod ({ cls := "java/lang/ArithmeticException", name := "<init>", desc := "()V" } : Jvm.MethodName)) ∈ lw_all := lw_g (lw_at lw_m14 24 rfl) rfl
theorem q3652 : (Jvm.Cond.code ({ cls := "java/lang/ArithmeticException", name := "<init>", desc := "()V" } : Jvm.MethodName) prog_44_method_1_code (1 : Nat) (Option.none : Option Jvm.ClassFile.FieldType)) ∈ lw_all := lw_g (lw_at lw_m14 25 rfl) rfl
theorem q3653 : (Jvm.Cond.methodLink "java/lang/ArithmeticException" (1 : Nat) ({ cls := "java/lang/RuntimeException", name := "<init>", desc := "()V" } : Jvm.MethodName)) ∈ lw_all := lw_g (lw_at lw_m14 26 rfl) rfl
theorem q6149 : (Jvm.Cond.castable "java/lang/ArithmeticException" "java/lang/Object") ∈ lw_tbl := lw_at lw_m24 122 rfl
theorem in_J19 : ∀ w ∈ wsJ190, w ∈ lw_all := lw_in wsJ190 [3597, 3598, 3599, 3600, 3601, 3602] (by decide +kernel) (by decide +kernel)

/-! java/lang/Object -/
set_option maxRecDepth 100000
def RJ20 : String := "java/lang/Object"
abbrev cJ20_init : ByteArray := object_method_1_code
def yJ20_init : MethodName := ⟨RJ20, "<init>", "()V"⟩
theorem dJ20_init_0 : decode cJ20_init 0 = .ok (.return_, 1) := by decide +kernel
theorem q576 : (Jvm.Cond.instanceMethod ({ cls := "java/lang/Object", name := "<init>", desc := "()V" } : Jvm.MethodName)) ∈ lw_all := lw_g (lw_at lw_m1 69 rfl) rfl
theorem q577 : (Jvm.Cond.code ({ cls := "java/lang/Object", name := "<init>", desc := "()V" } : Jvm.MethodName) object_method_1_code (1 : Nat) (Option.none : Option Jvm.ClassFile.FieldType)) ∈ lw_all := lw_g (lw_at lw_m1 70 rfl) rfl

/-! the law's own entry -/
set_option maxRecDepth 100000
abbrev cL_law : ByteArray := code
def dkwL_law_127 : List UInt8 := [3, 172, 167, 0, 3, 132, 4, 6, 167, 243, 220, 4, 172]
abbrev dktL_law_127 : List UInt8 := dkwL_law_127 ++ []
def dkwL_law_126 : List UInt8 := [182, 0, 167, 21, 5, 159, 0, 5, 3, 172, 21, 5, 154, 0, 14, 45, 3, 47, 22, 6, 148, 153, 0, 5]
abbrev dktL_law_126 : List UInt8 := dkwL_law_126 ++ dktL_law_127
def dkwL_law_125 : List UInt8 := [4, 96, 46, 45, 184, 1, 40, 54, 5, 44, 42, 21, 4, 4, 96, 46, 182, 1, 42, 55, 6, 44]
abbrev dktL_law_125 : List UInt8 := dkwL_law_125 ++ dktL_law_126
def dkwL_law_124 : List UInt8 := [172, 21, 5, 154, 0, 14, 45, 3, 47, 22, 6, 148, 153, 0, 5, 3, 172, 167, 0, 58, 43, 42, 21, 4]
abbrev dktL_law_124 : List UInt8 := dkwL_law_124 ++ dktL_law_125
def dkwL_law_123 : List UInt8 := [54, 5, 44, 42, 21, 4, 4, 96, 46, 182, 1, 39, 55, 6, 44, 182, 0, 167, 21, 5, 159, 0, 5, 3]
abbrev dktL_law_123 : List UInt8 := dkwL_law_123 ++ dktL_law_124
def dkwL_law_122 : List UInt8 := [21, 6, 133, 148, 153, 0, 5, 3, 172, 167, 0, 113, 43, 42, 21, 4, 4, 96, 46, 45, 184, 1, 37]
abbrev dktL_law_122 : List UInt8 := dkwL_law_122 ++ dktL_law_123
def dkwL_law_121 : List UInt8 := [182, 1, 36, 54, 6, 44, 182, 0, 167, 21, 5, 159, 0, 5, 3, 172, 21, 5, 154, 0, 15, 45, 3, 47]
abbrev dktL_law_121 : List UInt8 := dkwL_law_121 ++ dktL_law_122
def dkwL_law_120 : List UInt8 := [184, 1, 34, 54, 5, 44, 42, 21, 4, 4, 96, 46, 42, 21, 4, 5, 96, 46, 42, 21, 4, 6, 96, 46]
abbrev dktL_law_120 : List UInt8 := dkwL_law_120 ++ dktL_law_121
def dkwL_law_119 : List UInt8 := [167, 0, 193, 43, 42, 21, 4, 4, 96, 46, 42, 21, 4, 5, 96, 46, 42, 21, 4, 6, 96, 46, 45]
abbrev dktL_law_119 : List UInt8 := dkwL_law_119 ++ dktL_law_120
def dkwL_law_118 : List UInt8 := [159, 0, 5, 3, 172, 21, 5, 154, 0, 15, 45, 3, 47, 21, 6, 133, 148, 153, 0, 5, 3, 172]
abbrev dktL_law_118 : List UInt8 := dkwL_law_118 ++ dktL_law_119
def dkwL_law_117 : List UInt8 := [21, 4, 5, 96, 46, 42, 21, 4, 6, 96, 46, 182, 1, 33, 54, 6, 44, 182, 0, 167, 21, 5]
abbrev dktL_law_117 : List UInt8 := dkwL_law_117 ++ dktL_law_118
def dkwL_law_116 : List UInt8 := [5, 96, 46, 42, 21, 4, 6, 96, 46, 45, 184, 1, 31, 54, 5, 44, 42, 21, 4, 4, 96, 46, 42]
abbrev dktL_law_116 : List UInt8 := dkwL_law_116 ++ dktL_law_117
def dkwL_law_115 : List UInt8 := [3, 47, 21, 6, 133, 148, 153, 0, 5, 3, 172, 167, 1, 17, 43, 42, 21, 4, 4, 96, 46, 42, 21, 4]
abbrev dktL_law_115 : List UInt8 := dkwL_law_115 ++ dktL_law_116
def dkwL_law_114 : List UInt8 := [96, 46, 182, 1, 30, 54, 6, 44, 182, 0, 167, 21, 5, 159, 0, 5, 3, 172, 21, 5, 154, 0, 15, 45]
abbrev dktL_law_114 : List UInt8 := dkwL_law_114 ++ dktL_law_115
def dkwL_law_113 : List UInt8 := [46, 42, 21, 4, 5, 96, 46, 45, 184, 1, 28, 54, 5, 44, 42, 21, 4, 4, 96, 46, 42, 21, 4, 5]
abbrev dktL_law_113 : List UInt8 := dkwL_law_113 ++ dktL_law_114
def dkwL_law_112 : List UInt8 := [154, 0, 15, 45, 3, 47, 21, 6, 133, 148, 153, 0, 5, 3, 172, 167, 1, 85, 43, 42, 21, 4, 4, 96]
abbrev dktL_law_112 : List UInt8 := dkwL_law_112 ++ dktL_law_113
def dkwL_law_111 : List UInt8 := [21, 4, 6, 96, 46, 182, 1, 27, 54, 6, 44, 182, 0, 167, 21, 5, 159, 0, 5, 3, 172, 21, 5]
abbrev dktL_law_111 : List UInt8 := dkwL_law_111 ++ dktL_law_112
def dkwL_law_110 : List UInt8 := [6, 96, 46, 45, 184, 1, 25, 54, 5, 44, 42, 21, 4, 4, 96, 46, 42, 21, 4, 5, 96, 46, 42]
abbrev dktL_law_110 : List UInt8 := dkwL_law_110 ++ dktL_law_111
def dkwL_law_109 : List UInt8 := [153, 0, 5, 3, 172, 167, 1, 165, 43, 42, 21, 4, 4, 96, 46, 42, 21, 4, 5, 96, 46, 42, 21, 4]
abbrev dktL_law_109 : List UInt8 := dkwL_law_109 ++ dktL_law_110
def dkwL_law_108 : List UInt8 := [55, 6, 44, 182, 0, 167, 21, 5, 159, 0, 5, 3, 172, 21, 5, 154, 0, 14, 45, 3, 47, 22, 6, 148]
abbrev dktL_law_108 : List UInt8 := dkwL_law_108 ++ dktL_law_109
def dkwL_law_107 : List UInt8 := [96, 46, 45, 184, 1, 22, 54, 5, 44, 42, 21, 4, 4, 96, 46, 42, 21, 4, 5, 96, 46, 182, 1, 24]
abbrev dktL_law_107 : List UInt8 := dkwL_law_107 ++ dktL_law_108
def dkwL_law_106 : List UInt8 := [43, 182, 1, 18, 44, 182, 1, 21, 159, 1, 234, 3, 172, 43, 42, 21, 4, 4, 96, 46, 42, 21, 4, 5]
abbrev dktL_law_106 : List UInt8 := dkwL_law_106 ++ dktL_law_107
def dkwL_law_105 : List UInt8 := [159, 0, 5, 3, 172, 21, 5, 154, 0, 14, 45, 3, 47, 22, 6, 148, 153, 0, 5, 3, 172, 167, 1, 245]
abbrev dktL_law_105 : List UInt8 := dkwL_law_105 ++ dktL_law_106
def dkwL_law_104 : List UInt8 := [21, 4, 4, 96, 46, 42, 21, 4, 5, 96, 46, 182, 1, 17, 55, 6, 44, 182, 0, 167, 21, 5]
abbrev dktL_law_104 : List UInt8 := dkwL_law_104 ++ dktL_law_105
def dkwL_law_103 : List UInt8 := [167, 2, 56, 43, 42, 21, 4, 4, 96, 46, 42, 21, 4, 5, 96, 46, 45, 184, 1, 15, 54, 5, 44, 42]
abbrev dktL_law_103 : List UInt8 := dkwL_law_103 ++ dktL_law_104
def dkwL_law_102 : List UInt8 := [21, 5, 159, 0, 5, 3, 172, 21, 5, 154, 0, 15, 45, 3, 47, 21, 6, 133, 148, 153, 0, 5, 3, 172]
abbrev dktL_law_102 : List UInt8 := dkwL_law_102 ++ dktL_law_103
def dkwL_law_101 : List UInt8 := [46, 45, 184, 1, 12, 54, 5, 44, 42, 21, 4, 4, 96, 46, 182, 1, 14, 54, 6, 44, 182, 0, 167]
abbrev dktL_law_101 : List UInt8 := dkwL_law_101 ++ dktL_law_102
def dkwL_law_100 : List UInt8 := [154, 0, 15, 45, 3, 47, 21, 6, 133, 148, 153, 0, 5, 3, 172, 167, 2, 112, 43, 42, 21, 4, 4, 96]
abbrev dktL_law_100 : List UInt8 := dkwL_law_100 ++ dktL_law_101
def dkwL_law_99 : List UInt8 := [21, 4, 4, 96, 46, 182, 1, 11, 54, 6, 44, 182, 0, 167, 21, 5, 159, 0, 5, 3, 172, 21, 5]
abbrev dktL_law_99 : List UInt8 := dkwL_law_99 ++ dktL_law_100
def dkwL_law_98 : List UInt8 := [148, 153, 0, 5, 3, 172, 167, 2, 168, 43, 42, 21, 4, 4, 96, 46, 45, 184, 1, 9, 54, 5, 44, 42]
abbrev dktL_law_98 : List UInt8 := dkwL_law_98 ++ dktL_law_99
def dkwL_law_97 : List UInt8 := [54, 6, 44, 182, 0, 167, 21, 5, 159, 0, 5, 3, 172, 21, 5, 154, 0, 15, 45, 3, 47, 21, 6, 133]
abbrev dktL_law_97 : List UInt8 := dkwL_law_97 ++ dktL_law_98
def dkwL_law_96 : List UInt8 := [46, 45, 184, 1, 6, 54, 5, 44, 42, 21, 4, 4, 96, 46, 42, 21, 4, 5, 96, 46, 182, 1, 8]
abbrev dktL_law_96 : List UInt8 := dkwL_law_96 ++ dktL_law_97
def dkwL_law_95 : List UInt8 := [21, 6, 133, 148, 153, 0, 5, 3, 172, 167, 2, 236, 43, 42, 21, 4, 4, 96, 46, 42, 21, 4, 5, 96]
abbrev dktL_law_95 : List UInt8 := dkwL_law_95 ++ dktL_law_96
def dkwL_law_94 : List UInt8 := [182, 1, 5, 54, 6, 44, 182, 0, 167, 21, 5, 159, 0, 5, 3, 172, 21, 5, 154, 0, 15, 45, 3, 47]
abbrev dktL_law_94 : List UInt8 := dkwL_law_94 ++ dktL_law_95
def dkwL_law_93 : List UInt8 := [167, 3, 36, 43, 42, 21, 4, 4, 96, 46, 45, 184, 1, 3, 54, 5, 44, 42, 21, 4, 4, 96, 46]
abbrev dktL_law_93 : List UInt8 := dkwL_law_93 ++ dktL_law_94
def dkwL_law_92 : List UInt8 := [159, 0, 5, 3, 172, 21, 5, 154, 0, 15, 45, 3, 47, 21, 6, 133, 148, 153, 0, 5, 3, 172]
abbrev dktL_law_92 : List UInt8 := dkwL_law_92 ++ dktL_law_93
def dkwL_law_91 : List UInt8 := [3, 172, 167, 3, 80, 43, 45, 184, 1, 0, 54, 5, 44, 182, 1, 2, 54, 6, 44, 182, 0, 167, 21, 5]
abbrev dktL_law_91 : List UInt8 := dkwL_law_91 ++ dktL_law_92
def dkwL_law_90 : List UInt8 := [182, 0, 167, 21, 5, 159, 0, 5, 3, 172, 21, 5, 154, 0, 14, 45, 3, 47, 22, 6, 148, 153, 0, 5]
abbrev dktL_law_90 : List UInt8 := dkwL_law_90 ++ dktL_law_91
def dkwL_law_89 : List UInt8 := [153, 0, 5, 3, 172, 167, 3, 123, 43, 45, 184, 0, 253, 54, 5, 44, 182, 0, 255, 55, 6, 44]
abbrev dktL_law_89 : List UInt8 := dkwL_law_89 ++ dktL_law_90
def dkwL_law_88 : List UInt8 := [182, 0, 167, 21, 5, 159, 0, 5, 3, 172, 21, 5, 154, 0, 15, 45, 3, 47, 21, 6, 133, 148]
abbrev dktL_law_88 : List UInt8 := dkwL_law_88 ++ dktL_law_89
def dkwL_law_87 : List UInt8 := [184, 0, 250, 54, 5, 44, 42, 21, 4, 4, 96, 46, 42, 21, 4, 5, 96, 46, 182, 0, 252, 54, 6, 44]
abbrev dktL_law_87 : List UInt8 := dkwL_law_87 ++ dktL_law_88
def dkwL_law_86 : List UInt8 := [153, 0, 5, 3, 172, 167, 3, 191, 43, 42, 21, 4, 4, 96, 46, 42, 21, 4, 5, 96, 46, 45]
abbrev dktL_law_86 : List UInt8 := dkwL_law_86 ++ dktL_law_87
def dkwL_law_85 : List UInt8 := [182, 0, 167, 21, 5, 159, 0, 5, 3, 172, 21, 5, 154, 0, 15, 45, 3, 47, 21, 6, 133, 148]
abbrev dktL_law_85 : List UInt8 := dkwL_law_85 ++ dktL_law_86
def dkwL_law_84 : List UInt8 := [184, 0, 247, 54, 5, 44, 42, 21, 4, 4, 96, 46, 42, 21, 4, 5, 96, 46, 182, 0, 249, 54, 6, 44]
abbrev dktL_law_84 : List UInt8 := dkwL_law_84 ++ dktL_law_85
def dkwL_law_83 : List UInt8 := [153, 0, 5, 3, 172, 167, 4, 3, 43, 42, 21, 4, 4, 96, 46, 42, 21, 4, 5, 96, 46, 45]
abbrev dktL_law_83 : List UInt8 := dkwL_law_83 ++ dktL_law_84
def dkwL_law_82 : List UInt8 := [182, 0, 167, 21, 5, 159, 0, 5, 3, 172, 21, 5, 154, 0, 15, 45, 3, 47, 21, 6, 133, 148]
abbrev dktL_law_82 : List UInt8 := dkwL_law_82 ++ dktL_law_83
def dkwL_law_81 : List UInt8 := [184, 0, 244, 54, 5, 44, 42, 21, 4, 4, 96, 46, 42, 21, 4, 5, 96, 46, 182, 0, 246, 54, 6, 44]
abbrev dktL_law_81 : List UInt8 := dkwL_law_81 ++ dktL_law_82
def dkwL_law_80 : List UInt8 := [153, 0, 5, 3, 172, 167, 4, 71, 43, 42, 21, 4, 4, 96, 46, 42, 21, 4, 5, 96, 46, 45]
abbrev dktL_law_80 : List UInt8 := dkwL_law_80 ++ dktL_law_81
def dkwL_law_79 : List UInt8 := [55, 6, 44, 182, 0, 167, 21, 5, 159, 0, 5, 3, 172, 21, 5, 154, 0, 14, 45, 3, 47, 22, 6, 148]
abbrev dktL_law_79 : List UInt8 := dkwL_law_79 ++ dktL_law_80
def dkwL_law_78 : List UInt8 := [46, 45, 184, 0, 241, 54, 5, 44, 42, 21, 4, 4, 96, 46, 42, 21, 4, 5, 96, 46, 182, 0, 243]
abbrev dktL_law_78 : List UInt8 := dkwL_law_78 ++ dktL_law_79
def dkwL_law_77 : List UInt8 := [21, 6, 133, 148, 153, 0, 5, 3, 172, 167, 4, 138, 43, 42, 21, 4, 4, 96, 46, 42, 21, 4, 5, 96]
abbrev dktL_law_77 : List UInt8 := dkwL_law_77 ++ dktL_law_78
def dkwL_law_76 : List UInt8 := [182, 0, 240, 54, 6, 44, 182, 0, 167, 21, 5, 159, 0, 5, 3, 172, 21, 5, 154, 0, 15, 45, 3, 47]
abbrev dktL_law_76 : List UInt8 := dkwL_law_76 ++ dktL_law_77
def dkwL_law_75 : List UInt8 := [42, 21, 4, 5, 96, 46, 42, 21, 4, 6, 96, 46, 42, 21, 4, 7, 96, 46, 42, 21, 4, 8, 96, 46]
abbrev dktL_law_75 : List UInt8 := dkwL_law_75 ++ dktL_law_76
def dkwL_law_74 : List UInt8 := [21, 4, 7, 96, 46, 42, 21, 4, 8, 96, 46, 45, 184, 0, 238, 54, 5, 44, 42, 21, 4, 4, 96, 46]
abbrev dktL_law_74 : List UInt8 := dkwL_law_74 ++ dktL_law_75
def dkwL_law_73 : List UInt8 := [167, 4, 242, 43, 42, 21, 4, 4, 96, 46, 42, 21, 4, 5, 96, 46, 42, 21, 4, 6, 96, 46, 42]
abbrev dktL_law_73 : List UInt8 := dkwL_law_73 ++ dktL_law_74
def dkwL_law_72 : List UInt8 := [159, 0, 5, 3, 172, 21, 5, 154, 0, 15, 45, 3, 47, 21, 6, 133, 148, 153, 0, 5, 3, 172]
abbrev dktL_law_72 : List UInt8 := dkwL_law_72 ++ dktL_law_73
def dkwL_law_71 : List UInt8 := [42, 21, 4, 6, 96, 46, 42, 21, 4, 7, 96, 46, 182, 0, 237, 54, 6, 44, 182, 0, 167, 21, 5]
abbrev dktL_law_71 : List UInt8 := dkwL_law_71 ++ dktL_law_72
def dkwL_law_70 : List UInt8 := [21, 4, 7, 96, 46, 45, 184, 0, 235, 54, 5, 44, 42, 21, 4, 4, 96, 46, 42, 21, 4, 5, 96, 46]
abbrev dktL_law_70 : List UInt8 := dkwL_law_70 ++ dktL_law_71
def dkwL_law_69 : List UInt8 := [167, 5, 78, 43, 42, 21, 4, 4, 96, 46, 42, 21, 4, 5, 96, 46, 42, 21, 4, 6, 96, 46, 42]
abbrev dktL_law_69 : List UInt8 := dkwL_law_69 ++ dktL_law_70
def dkwL_law_68 : List UInt8 := [159, 0, 5, 3, 172, 21, 5, 154, 0, 15, 45, 3, 47, 21, 6, 133, 148, 153, 0, 5, 3, 172]
abbrev dktL_law_68 : List UInt8 := dkwL_law_68 ++ dktL_law_69
def dkwL_law_67 : List UInt8 := [21, 4, 6, 96, 46, 133, 20, 0, 229, 127, 129, 182, 0, 234, 54, 6, 44, 182, 0, 167, 21, 5]
abbrev dktL_law_67 : List UInt8 := dkwL_law_67 ++ dktL_law_68
def dkwL_law_66 : List UInt8 := [184, 0, 231, 54, 5, 44, 42, 21, 4, 4, 96, 46, 42, 21, 4, 5, 96, 46, 133, 16, 32, 121, 42]
abbrev dktL_law_66 : List UInt8 := dkwL_law_66 ++ dktL_law_67
def dkwL_law_65 : List UInt8 := [46, 42, 21, 4, 5, 96, 46, 133, 16, 32, 121, 42, 21, 4, 6, 96, 46, 133, 20, 0, 229, 127, 129, 45]
abbrev dktL_law_65 : List UInt8 := dkwL_law_65 ++ dktL_law_66
def dkwL_law_64 : List UInt8 := [154, 0, 15, 45, 3, 47, 21, 6, 133, 148, 153, 0, 5, 3, 172, 167, 5, 178, 43, 42, 21, 4, 4, 96]
abbrev dktL_law_64 : List UInt8 := dkwL_law_64 ++ dktL_law_65
def dkwL_law_63 : List UInt8 := [21, 4, 4, 96, 46, 182, 0, 228, 54, 6, 44, 182, 0, 167, 21, 5, 159, 0, 5, 3, 172, 21, 5]
abbrev dktL_law_63 : List UInt8 := dkwL_law_63 ++ dktL_law_64
def dkwL_law_62 : List UInt8 := [153, 0, 5, 3, 172, 167, 5, 234, 43, 42, 21, 4, 4, 96, 46, 45, 184, 0, 226, 54, 5, 44, 42]
abbrev dktL_law_62 : List UInt8 := dkwL_law_62 ++ dktL_law_63
def dkwL_law_61 : List UInt8 := [182, 0, 167, 21, 5, 159, 0, 5, 3, 172, 21, 5, 154, 0, 15, 45, 3, 47, 21, 6, 133, 148]
abbrev dktL_law_61 : List UInt8 := dkwL_law_61 ++ dktL_law_62
def dkwL_law_60 : List UInt8 := [184, 0, 223, 54, 5, 44, 42, 21, 4, 4, 96, 46, 42, 21, 4, 5, 96, 46, 182, 0, 225, 54, 6, 44]
abbrev dktL_law_60 : List UInt8 := dkwL_law_60 ++ dktL_law_61
def dkwL_law_59 : List UInt8 := [153, 0, 5, 3, 172, 167, 6, 46, 43, 42, 21, 4, 4, 96, 46, 42, 21, 4, 5, 96, 46, 45]
abbrev dktL_law_59 : List UInt8 := dkwL_law_59 ++ dktL_law_60
def dkwL_law_58 : List UInt8 := [182, 0, 167, 21, 5, 159, 0, 5, 3, 172, 21, 5, 154, 0, 15, 45, 3, 47, 21, 6, 133, 148]
abbrev dktL_law_58 : List UInt8 := dkwL_law_58 ++ dktL_law_59
def dkwL_law_57 : List UInt8 := [184, 0, 219, 54, 5, 44, 42, 21, 4, 4, 96, 46, 42, 21, 4, 5, 96, 46, 182, 0, 222, 54, 6, 44]
abbrev dktL_law_57 : List UInt8 := dkwL_law_57 ++ dktL_law_58
def dkwL_law_56 : List UInt8 := [153, 0, 5, 3, 172, 167, 6, 114, 43, 42, 21, 4, 4, 96, 46, 42, 21, 4, 5, 96, 46, 45]
abbrev dktL_law_56 : List UInt8 := dkwL_law_56 ++ dktL_law_57
def dkwL_law_55 : List UInt8 := [182, 0, 167, 21, 5, 159, 0, 5, 3, 172, 21, 5, 154, 0, 15, 45, 3, 47, 21, 6, 133, 148]
abbrev dktL_law_55 : List UInt8 := dkwL_law_55 ++ dktL_law_56
def dkwL_law_54 : List UInt8 := [42, 21, 4, 5, 96, 46, 42, 21, 4, 6, 96, 46, 42, 21, 4, 7, 96, 46, 182, 0, 218, 54, 6, 44]
abbrev dktL_law_54 : List UInt8 := dkwL_law_54 ++ dktL_law_55
def dkwL_law_53 : List UInt8 := [21, 4, 6, 96, 46, 42, 21, 4, 7, 96, 46, 45, 184, 0, 216, 54, 5, 44, 42, 21, 4, 4, 96, 46]
abbrev dktL_law_53 : List UInt8 := dkwL_law_53 ++ dktL_law_54
def dkwL_law_52 : List UInt8 := [148, 153, 0, 5, 3, 172, 167, 6, 206, 43, 42, 21, 4, 4, 96, 46, 42, 21, 4, 5, 96, 46, 42]
abbrev dktL_law_52 : List UInt8 := dkwL_law_52 ++ dktL_law_53
def dkwL_law_51 : List UInt8 := [54, 6, 44, 182, 0, 167, 21, 5, 159, 0, 5, 3, 172, 21, 5, 154, 0, 15, 45, 3, 47, 21, 6, 133]
abbrev dktL_law_51 : List UInt8 := dkwL_law_51 ++ dktL_law_52
def dkwL_law_50 : List UInt8 := [47, 21, 6, 133, 148, 153, 0, 5, 3, 172, 167, 6, 250, 43, 45, 184, 0, 212, 54, 5, 44, 182, 0, 215]
abbrev dktL_law_50 : List UInt8 := dkwL_law_50 ++ dktL_law_51
def dkwL_law_49 : List UInt8 := [46, 182, 0, 211, 54, 6, 44, 182, 0, 167, 21, 5, 159, 0, 5, 3, 172, 21, 5, 154, 0, 15, 45, 3]
abbrev dktL_law_49 : List UInt8 := dkwL_law_49 ++ dktL_law_50
def dkwL_law_48 : List UInt8 := [44, 42, 21, 4, 4, 96, 46, 42, 21, 4, 5, 96, 46, 42, 21, 4, 6, 96, 46, 42, 21, 4, 7, 96]
abbrev dktL_law_48 : List UInt8 := dkwL_law_48 ++ dktL_law_49
def dkwL_law_47 : List UInt8 := [42, 21, 4, 5, 96, 46, 42, 21, 4, 6, 96, 46, 42, 21, 4, 7, 96, 46, 45, 184, 0, 209, 54, 5]
abbrev dktL_law_47 : List UInt8 := dkwL_law_47 ++ dktL_law_48
def dkwL_law_46 : List UInt8 := [154, 0, 14, 45, 3, 47, 22, 6, 148, 153, 0, 5, 3, 172, 167, 7, 86, 43, 42, 21, 4, 4, 96, 46]
abbrev dktL_law_46 : List UInt8 := dkwL_law_46 ++ dktL_law_47
def dkwL_law_45 : List UInt8 := [21, 4, 6, 96, 46, 182, 0, 208, 55, 6, 44, 182, 0, 167, 21, 5, 159, 0, 5, 3, 172, 21, 5]
abbrev dktL_law_45 : List UInt8 := dkwL_law_45 ++ dktL_law_46
def dkwL_law_44 : List UInt8 := [6, 96, 46, 45, 184, 0, 206, 54, 5, 44, 42, 21, 4, 4, 96, 46, 42, 21, 4, 5, 96, 46, 42]
abbrev dktL_law_44 : List UInt8 := dkwL_law_44 ++ dktL_law_45
def dkwL_law_43 : List UInt8 := [153, 0, 5, 3, 172, 167, 7, 165, 43, 42, 21, 4, 4, 96, 46, 42, 21, 4, 5, 96, 46, 42, 21, 4]
abbrev dktL_law_43 : List UInt8 := dkwL_law_43 ++ dktL_law_44
def dkwL_law_42 : List UInt8 := [44, 182, 0, 167, 21, 5, 159, 0, 5, 3, 172, 21, 5, 154, 0, 14, 45, 3, 47, 22, 6, 148]
abbrev dktL_law_42 : List UInt8 := dkwL_law_42 ++ dktL_law_43
def dkwL_law_41 : List UInt8 := [46, 42, 21, 4, 5, 96, 46, 42, 21, 4, 6, 96, 46, 42, 21, 4, 7, 96, 46, 182, 0, 205, 55, 6]
abbrev dktL_law_41 : List UInt8 := dkwL_law_41 ++ dktL_law_42
def dkwL_law_40 : List UInt8 := [42, 21, 4, 6, 96, 46, 42, 21, 4, 7, 96, 46, 45, 184, 0, 203, 54, 5, 44, 42, 21, 4, 4, 96]
abbrev dktL_law_40 : List UInt8 := dkwL_law_40 ++ dktL_law_41
def dkwL_law_39 : List UInt8 := [22, 6, 148, 153, 0, 5, 3, 172, 167, 8, 0, 43, 42, 21, 4, 4, 96, 46, 42, 21, 4, 5, 96, 46]
abbrev dktL_law_39 : List UInt8 := dkwL_law_39 ++ dktL_law_40
def dkwL_law_38 : List UInt8 := [182, 0, 202, 55, 6, 44, 182, 0, 167, 21, 5, 159, 0, 5, 3, 172, 21, 5, 154, 0, 14, 45, 3, 47]
abbrev dktL_law_38 : List UInt8 := dkwL_law_38 ++ dktL_law_39
def dkwL_law_37 : List UInt8 := [184, 0, 200, 54, 5, 44, 42, 21, 4, 4, 96, 46, 42, 21, 4, 5, 96, 46, 42, 21, 4, 6, 96, 46]
abbrev dktL_law_37 : List UInt8 := dkwL_law_37 ++ dktL_law_38
def dkwL_law_36 : List UInt8 := [167, 8, 79, 43, 42, 21, 4, 4, 96, 46, 42, 21, 4, 5, 96, 46, 42, 21, 4, 6, 96, 46, 45]
abbrev dktL_law_36 : List UInt8 := dkwL_law_36 ++ dktL_law_37
def dkwL_law_35 : List UInt8 := [21, 5, 159, 0, 5, 3, 172, 21, 5, 154, 0, 14, 45, 3, 47, 22, 6, 148, 153, 0, 5, 3, 172]
abbrev dktL_law_35 : List UInt8 := dkwL_law_35 ++ dktL_law_36
def dkwL_law_34 : List UInt8 := [96, 46, 42, 21, 4, 5, 96, 46, 42, 21, 4, 6, 96, 46, 182, 0, 199, 55, 6, 44, 182, 0, 167]
abbrev dktL_law_34 : List UInt8 := dkwL_law_34 ++ dktL_law_35
def dkwL_law_33 : List UInt8 := [46, 42, 21, 4, 5, 96, 46, 42, 21, 4, 6, 96, 46, 45, 184, 0, 197, 54, 5, 44, 42, 21, 4, 4]
abbrev dktL_law_33 : List UInt8 := dkwL_law_33 ++ dktL_law_34
def dkwL_law_32 : List UInt8 := [154, 0, 15, 45, 3, 47, 21, 6, 133, 148, 153, 0, 5, 3, 172, 167, 8, 158, 43, 42, 21, 4, 4, 96]
abbrev dktL_law_32 : List UInt8 := dkwL_law_32 ++ dktL_law_33
def dkwL_law_31 : List UInt8 := [21, 4, 4, 96, 46, 182, 0, 196, 54, 6, 44, 182, 0, 167, 21, 5, 159, 0, 5, 3, 172, 21, 5]
abbrev dktL_law_31 : List UInt8 := dkwL_law_31 ++ dktL_law_32
def dkwL_law_30 : List UInt8 := [148, 153, 0, 5, 3, 172, 167, 8, 214, 43, 42, 21, 4, 4, 96, 46, 45, 184, 0, 194, 54, 5, 44, 42]
abbrev dktL_law_30 : List UInt8 := dkwL_law_30 ++ dktL_law_31
def dkwL_law_29 : List UInt8 := [54, 6, 44, 182, 0, 167, 21, 5, 159, 0, 5, 3, 172, 21, 5, 154, 0, 15, 45, 3, 47, 21, 6, 133]
abbrev dktL_law_29 : List UInt8 := dkwL_law_29 ++ dktL_law_30
def dkwL_law_28 : List UInt8 := [96, 46, 42, 21, 4, 5, 96, 46, 42, 21, 4, 6, 96, 46, 42, 21, 4, 7, 96, 46, 182, 0, 193]
abbrev dktL_law_28 : List UInt8 := dkwL_law_28 ++ dktL_law_29
def dkwL_law_27 : List UInt8 := [46, 42, 21, 4, 6, 96, 46, 42, 21, 4, 7, 96, 46, 45, 184, 0, 191, 54, 5, 44, 42, 21, 4, 4]
abbrev dktL_law_27 : List UInt8 := dkwL_law_27 ++ dktL_law_28
def dkwL_law_26 : List UInt8 := [47, 22, 6, 148, 153, 0, 5, 3, 172, 167, 9, 50, 43, 42, 21, 4, 4, 96, 46, 42, 21, 4, 5, 96]
abbrev dktL_law_26 : List UInt8 := dkwL_law_26 ++ dktL_law_27
def dkwL_law_25 : List UInt8 := [46, 182, 0, 190, 55, 6, 44, 182, 0, 167, 21, 5, 159, 0, 5, 3, 172, 21, 5, 154, 0, 14, 45, 3]
abbrev dktL_law_25 : List UInt8 := dkwL_law_25 ++ dktL_law_26
def dkwL_law_24 : List UInt8 := [44, 42, 21, 4, 4, 96, 46, 42, 21, 4, 5, 96, 46, 42, 21, 4, 6, 96, 46, 42, 21, 4, 7, 96]
abbrev dktL_law_24 : List UInt8 := dkwL_law_24 ++ dktL_law_25
def dkwL_law_23 : List UInt8 := [42, 21, 4, 5, 96, 46, 42, 21, 4, 6, 96, 46, 42, 21, 4, 7, 96, 46, 45, 184, 0, 188, 54, 5]
abbrev dktL_law_23 : List UInt8 := dkwL_law_23 ++ dktL_law_24
def dkwL_law_22 : List UInt8 := [154, 0, 14, 45, 3, 47, 22, 6, 148, 153, 0, 5, 3, 172, 167, 9, 141, 43, 42, 21, 4, 4, 96, 46]
abbrev dktL_law_22 : List UInt8 := dkwL_law_22 ++ dktL_law_23
def dkwL_law_21 : List UInt8 := [21, 4, 6, 96, 46, 182, 0, 187, 55, 6, 44, 182, 0, 167, 21, 5, 159, 0, 5, 3, 172, 21, 5]
abbrev dktL_law_21 : List UInt8 := dkwL_law_21 ++ dktL_law_22
def dkwL_law_20 : List UInt8 := [6, 96, 46, 45, 184, 0, 185, 54, 5, 44, 42, 21, 4, 4, 96, 46, 42, 21, 4, 5, 96, 46, 42]
abbrev dktL_law_20 : List UInt8 := dkwL_law_20 ++ dktL_law_21
def dkwL_law_19 : List UInt8 := [153, 0, 5, 3, 172, 167, 9, 220, 43, 42, 21, 4, 4, 96, 46, 42, 21, 4, 5, 96, 46, 42, 21, 4]
abbrev dktL_law_19 : List UInt8 := dkwL_law_19 ++ dktL_law_20
def dkwL_law_18 : List UInt8 := [55, 6, 44, 182, 0, 167, 21, 5, 159, 0, 5, 3, 172, 21, 5, 154, 0, 14, 45, 3, 47, 22, 6, 148]
abbrev dktL_law_18 : List UInt8 := dkwL_law_18 ++ dktL_law_19
def dkwL_law_17 : List UInt8 := [96, 46, 42, 21, 4, 5, 96, 46, 42, 21, 4, 6, 96, 46, 42, 21, 4, 7, 96, 46, 182, 0, 184]
abbrev dktL_law_17 : List UInt8 := dkwL_law_17 ++ dktL_law_18
def dkwL_law_16 : List UInt8 := [46, 42, 21, 4, 6, 96, 46, 42, 21, 4, 7, 96, 46, 45, 184, 0, 181, 54, 5, 44, 42, 21, 4, 4]
abbrev dktL_law_16 : List UInt8 := dkwL_law_16 ++ dktL_law_17
def dkwL_law_15 : List UInt8 := [21, 6, 133, 148, 153, 0, 5, 3, 172, 167, 10, 55, 43, 42, 21, 4, 4, 96, 46, 42, 21, 4, 5, 96]
abbrev dktL_law_15 : List UInt8 := dkwL_law_15 ++ dktL_law_16
def dkwL_law_14 : List UInt8 := [182, 0, 180, 54, 6, 44, 182, 0, 167, 21, 5, 159, 0, 5, 3, 172, 21, 5, 154, 0, 15, 45, 3, 47]
abbrev dktL_law_14 : List UInt8 := dkwL_law_14 ++ dktL_law_15
def dkwL_law_13 : List UInt8 := [167, 10, 111, 43, 42, 21, 4, 4, 96, 46, 45, 184, 0, 178, 54, 5, 44, 42, 21, 4, 4, 96, 46]
abbrev dktL_law_13 : List UInt8 := dkwL_law_13 ++ dktL_law_14
def dkwL_law_12 : List UInt8 := [21, 5, 159, 0, 5, 3, 172, 21, 5, 154, 0, 15, 45, 3, 47, 21, 6, 133, 148, 153, 0, 5, 3, 172]
abbrev dktL_law_12 : List UInt8 := dkwL_law_12 ++ dktL_law_13
def dkwL_law_11 : List UInt8 := [96, 46, 42, 21, 4, 5, 96, 46, 42, 21, 4, 6, 96, 46, 182, 0, 177, 54, 6, 44, 182, 0, 167]
abbrev dktL_law_11 : List UInt8 := dkwL_law_11 ++ dktL_law_12
def dkwL_law_10 : List UInt8 := [46, 42, 21, 4, 5, 96, 46, 42, 21, 4, 6, 96, 46, 45, 184, 0, 174, 54, 5, 44, 42, 21, 4, 4]
abbrev dktL_law_10 : List UInt8 := dkwL_law_10 ++ dktL_law_11
def dkwL_law_9 : List UInt8 := [154, 0, 15, 45, 3, 47, 21, 6, 133, 148, 153, 0, 5, 3, 172, 167, 10, 191, 43, 42, 21, 4, 4, 96]
abbrev dktL_law_9 : List UInt8 := dkwL_law_9 ++ dktL_law_10
def dkwL_law_8 : List UInt8 := [21, 4, 4, 96, 46, 182, 0, 173, 54, 6, 44, 182, 0, 167, 21, 5, 159, 0, 5, 3, 172, 21, 5]
abbrev dktL_law_8 : List UInt8 := dkwL_law_8 ++ dktL_law_9
def dkwL_law_7 : List UInt8 := [148, 153, 0, 5, 3, 172, 167, 10, 247, 43, 42, 21, 4, 4, 96, 46, 45, 184, 0, 170, 54, 5, 44, 42]
abbrev dktL_law_7 : List UInt8 := dkwL_law_7 ++ dktL_law_8
def dkwL_law_6 : List UInt8 := [54, 6, 44, 182, 0, 167, 21, 5, 159, 0, 5, 3, 172, 21, 5, 154, 0, 15, 45, 3, 47, 21, 6, 133]
abbrev dktL_law_6 : List UInt8 := dkwL_law_6 ++ dktL_law_7
def dkwL_law_5 : List UInt8 := [96, 46, 42, 21, 4, 6, 96, 46, 42, 21, 4, 7, 96, 46, 42, 21, 4, 8, 96, 46, 182, 0, 166]
abbrev dktL_law_5 : List UInt8 := dkwL_law_5 ++ dktL_law_6
def dkwL_law_4 : List UInt8 := [46, 42, 21, 4, 8, 96, 46, 45, 184, 0, 161, 54, 5, 44, 42, 21, 4, 4, 96, 46, 42, 21, 4, 5]
abbrev dktL_law_4 : List UInt8 := dkwL_law_4 ++ dktL_law_5
def dkwL_law_3 : List UInt8 := [43, 42, 21, 4, 4, 96, 46, 42, 21, 4, 5, 96, 46, 42, 21, 4, 6, 96, 46, 42, 21, 4, 7, 96]
abbrev dktL_law_3 : List UInt8 := dkwL_law_3 ++ dktL_law_4
def dkwL_law_2 : List UInt8 := [170, 0, 0, 0, 0, 0, 12, 16, 0, 0, 0, 0, 0, 0, 0, 40, 0, 0, 0, 180, 0, 0, 1, 28, 0, 0, 1, 84, 0, 0, 1, 164, 0, 0, 1, 220, 0, 0, 2, 55, 0, 0, 2, 134, 0, 0, 2, 225, 0, 0, 3, 61, 0, 0, 3, 117, 0, 0, 3, 196, 0, 0, 4, 19, 0, 0, 4, 110, 0, 0, 4, 189, 0, 0, 5, 25, 0, 0, 5, 69, 0, 0, 5, 161, 0, 0, 5, 229, 0, 0, 6, 41, 0, 0, 6, 97, 0, 0, 6, 197, 0, 0, 7, 33, 0, 0, 7, 137, 0, 0, 7, 204, 0, 0, 8, 16, 0, 0, 8, 84, 0, 0, 8, 152, 0, 0, 8, 195, 0, 0, 8, 239, 0, 0, 9, 39, 0, 0, 9, 107, 0, 0, 9, 163, 0, 0, 9, 219, 0, 0, 10, 30, 0, 0, 10, 43, 0, 0, 10, 110, 0, 0, 10, 190, 0, 0, 11, 2, 0, 0, 11, 82, 0, 0, 11, 162, 0, 0, 11, 217]
abbrev dktL_law_2 : List UInt8 := dkwL_law_2 ++ dktL_law_3
def dkwL_law_1 : List UInt8 := [21, 4, 42, 190, 16, 6, 100, 163, 12, 32, 42, 21, 4, 46, 16, 63, 126]
abbrev dktL_law_1 : List UInt8 := dkwL_law_1 ++ dktL_law_2
def dkwL_law_0 : List UInt8 := [187, 0, 8, 89, 183, 0, 157, 76, 187, 0, 158, 89, 183, 0, 160, 77, 4, 188, 11, 78, 3, 54, 4]
abbrev dktL_law_0 : List UInt8 := dkwL_law_0 ++ dktL_law_1
theorem dksL_law_0 : cL_law.data.toList.drop 0 = dktL_law_0 := by decide +kernel
theorem dksL_law_1 : cL_law.data.toList.drop 23 = dktL_law_1 := dk_seg dksL_law_0 23 rfl rfl
theorem dksL_law_2 : cL_law.data.toList.drop 40 = dktL_law_2 := dk_seg dksL_law_1 17 rfl rfl
theorem dksL_law_3 : cL_law.data.toList.drop 220 = dktL_law_3 := dk_seg dksL_law_2 180 rfl rfl
theorem dksL_law_4 : cL_law.data.toList.drop 244 = dktL_law_4 := dk_seg dksL_law_3 24 rfl rfl
theorem dksL_law_5 : cL_law.data.toList.drop 268 = dktL_law_5 := dk_seg dksL_law_4 24 rfl rfl
theorem dksL_law_6 : cL_law.data.toList.drop 291 = dktL_law_6 := dk_seg dksL_law_5 23 rfl rfl
theorem dksL_law_7 : cL_law.data.toList.drop 315 = dktL_law_7 := dk_seg dksL_law_6 24 rfl rfl
theorem dksL_law_8 : cL_law.data.toList.drop 339 = dktL_law_8 := dk_seg dksL_law_7 24 rfl rfl
theorem dksL_law_9 : cL_law.data.toList.drop 362 = dktL_law_9 := dk_seg dksL_law_8 23 rfl rfl
theorem dksL_law_10 : cL_law.data.toList.drop 386 = dktL_law_10 := dk_seg dksL_law_9 24 rfl rfl
theorem dksL_law_11 : cL_law.data.toList.drop 410 = dktL_law_11 := dk_seg dksL_law_10 24 rfl rfl
theorem dksL_law_12 : cL_law.data.toList.drop 433 = dktL_law_12 := dk_seg dksL_law_11 23 rfl rfl
theorem dksL_law_13 : cL_law.data.toList.drop 457 = dktL_law_13 := dk_seg dksL_law_12 24 rfl rfl
theorem dksL_law_14 : cL_law.data.toList.drop 480 = dktL_law_14 := dk_seg dksL_law_13 23 rfl rfl
theorem dksL_law_15 : cL_law.data.toList.drop 504 = dktL_law_15 := dk_seg dksL_law_14 24 rfl rfl
theorem dksL_law_16 : cL_law.data.toList.drop 528 = dktL_law_16 := dk_seg dksL_law_15 24 rfl rfl
theorem dksL_law_17 : cL_law.data.toList.drop 552 = dktL_law_17 := dk_seg dksL_law_16 24 rfl rfl
theorem dksL_law_18 : cL_law.data.toList.drop 575 = dktL_law_18 := dk_seg dksL_law_17 23 rfl rfl
theorem dksL_law_19 : cL_law.data.toList.drop 599 = dktL_law_19 := dk_seg dksL_law_18 24 rfl rfl
theorem dksL_law_20 : cL_law.data.toList.drop 623 = dktL_law_20 := dk_seg dksL_law_19 24 rfl rfl
theorem dksL_law_21 : cL_law.data.toList.drop 646 = dktL_law_21 := dk_seg dksL_law_20 23 rfl rfl
theorem dksL_law_22 : cL_law.data.toList.drop 669 = dktL_law_22 := dk_seg dksL_law_21 23 rfl rfl
theorem dksL_law_23 : cL_law.data.toList.drop 693 = dktL_law_23 := dk_seg dksL_law_22 24 rfl rfl
theorem dksL_law_24 : cL_law.data.toList.drop 717 = dktL_law_24 := dk_seg dksL_law_23 24 rfl rfl
theorem dksL_law_25 : cL_law.data.toList.drop 741 = dktL_law_25 := dk_seg dksL_law_24 24 rfl rfl
theorem dksL_law_26 : cL_law.data.toList.drop 765 = dktL_law_26 := dk_seg dksL_law_25 24 rfl rfl
theorem dksL_law_27 : cL_law.data.toList.drop 789 = dktL_law_27 := dk_seg dksL_law_26 24 rfl rfl
theorem dksL_law_28 : cL_law.data.toList.drop 813 = dktL_law_28 := dk_seg dksL_law_27 24 rfl rfl
theorem dksL_law_29 : cL_law.data.toList.drop 836 = dktL_law_29 := dk_seg dksL_law_28 23 rfl rfl
theorem dksL_law_30 : cL_law.data.toList.drop 860 = dktL_law_30 := dk_seg dksL_law_29 24 rfl rfl
theorem dksL_law_31 : cL_law.data.toList.drop 884 = dktL_law_31 := dk_seg dksL_law_30 24 rfl rfl
theorem dksL_law_32 : cL_law.data.toList.drop 907 = dktL_law_32 := dk_seg dksL_law_31 23 rfl rfl
theorem dksL_law_33 : cL_law.data.toList.drop 931 = dktL_law_33 := dk_seg dksL_law_32 24 rfl rfl
theorem dksL_law_34 : cL_law.data.toList.drop 955 = dktL_law_34 := dk_seg dksL_law_33 24 rfl rfl
theorem dksL_law_35 : cL_law.data.toList.drop 978 = dktL_law_35 := dk_seg dksL_law_34 23 rfl rfl
theorem dksL_law_36 : cL_law.data.toList.drop 1001 = dktL_law_36 := dk_seg dksL_law_35 23 rfl rfl
theorem dksL_law_37 : cL_law.data.toList.drop 1024 = dktL_law_37 := dk_seg dksL_law_36 23 rfl rfl
theorem dksL_law_38 : cL_law.data.toList.drop 1048 = dktL_law_38 := dk_seg dksL_law_37 24 rfl rfl
theorem dksL_law_39 : cL_law.data.toList.drop 1072 = dktL_law_39 := dk_seg dksL_law_38 24 rfl rfl
theorem dksL_law_40 : cL_law.data.toList.drop 1096 = dktL_law_40 := dk_seg dksL_law_39 24 rfl rfl
theorem dksL_law_41 : cL_law.data.toList.drop 1120 = dktL_law_41 := dk_seg dksL_law_40 24 rfl rfl
theorem dksL_law_42 : cL_law.data.toList.drop 1144 = dktL_law_42 := dk_seg dksL_law_41 24 rfl rfl
theorem dksL_law_43 : cL_law.data.toList.drop 1166 = dktL_law_43 := dk_seg dksL_law_42 22 rfl rfl
theorem dksL_law_44 : cL_law.data.toList.drop 1190 = dktL_law_44 := dk_seg dksL_law_43 24 rfl rfl
theorem dksL_law_45 : cL_law.data.toList.drop 1213 = dktL_law_45 := dk_seg dksL_law_44 23 rfl rfl
theorem dksL_law_46 : cL_law.data.toList.drop 1236 = dktL_law_46 := dk_seg dksL_law_45 23 rfl rfl
theorem dksL_law_47 : cL_law.data.toList.drop 1260 = dktL_law_47 := dk_seg dksL_law_46 24 rfl rfl
theorem dksL_law_48 : cL_law.data.toList.drop 1284 = dktL_law_48 := dk_seg dksL_law_47 24 rfl rfl
theorem dksL_law_49 : cL_law.data.toList.drop 1308 = dktL_law_49 := dk_seg dksL_law_48 24 rfl rfl
theorem dksL_law_50 : cL_law.data.toList.drop 1332 = dktL_law_50 := dk_seg dksL_law_49 24 rfl rfl
theorem dksL_law_51 : cL_law.data.toList.drop 1356 = dktL_law_51 := dk_seg dksL_law_50 24 rfl rfl
theorem dksL_law_52 : cL_law.data.toList.drop 1380 = dktL_law_52 := dk_seg dksL_law_51 24 rfl rfl
theorem dksL_law_53 : cL_law.data.toList.drop 1403 = dktL_law_53 := dk_seg dksL_law_52 23 rfl rfl
theorem dksL_law_54 : cL_law.data.toList.drop 1427 = dktL_law_54 := dk_seg dksL_law_53 24 rfl rfl
theorem dksL_law_55 : cL_law.data.toList.drop 1451 = dktL_law_55 := dk_seg dksL_law_54 24 rfl rfl
theorem dksL_law_56 : cL_law.data.toList.drop 1473 = dktL_law_56 := dk_seg dksL_law_55 22 rfl rfl
theorem dksL_law_57 : cL_law.data.toList.drop 1495 = dktL_law_57 := dk_seg dksL_law_56 22 rfl rfl
theorem dksL_law_58 : cL_law.data.toList.drop 1519 = dktL_law_58 := dk_seg dksL_law_57 24 rfl rfl
theorem dksL_law_59 : cL_law.data.toList.drop 1541 = dktL_law_59 := dk_seg dksL_law_58 22 rfl rfl
theorem dksL_law_60 : cL_law.data.toList.drop 1563 = dktL_law_60 := dk_seg dksL_law_59 22 rfl rfl
theorem dksL_law_61 : cL_law.data.toList.drop 1587 = dktL_law_61 := dk_seg dksL_law_60 24 rfl rfl
theorem dksL_law_62 : cL_law.data.toList.drop 1609 = dktL_law_62 := dk_seg dksL_law_61 22 rfl rfl
theorem dksL_law_63 : cL_law.data.toList.drop 1632 = dktL_law_63 := dk_seg dksL_law_62 23 rfl rfl
theorem dksL_law_64 : cL_law.data.toList.drop 1655 = dktL_law_64 := dk_seg dksL_law_63 23 rfl rfl
theorem dksL_law_65 : cL_law.data.toList.drop 1679 = dktL_law_65 := dk_seg dksL_law_64 24 rfl rfl
theorem dksL_law_66 : cL_law.data.toList.drop 1703 = dktL_law_66 := dk_seg dksL_law_65 24 rfl rfl
theorem dksL_law_67 : cL_law.data.toList.drop 1726 = dktL_law_67 := dk_seg dksL_law_66 23 rfl rfl
theorem dksL_law_68 : cL_law.data.toList.drop 1748 = dktL_law_68 := dk_seg dksL_law_67 22 rfl rfl
theorem dksL_law_69 : cL_law.data.toList.drop 1770 = dktL_law_69 := dk_seg dksL_law_68 22 rfl rfl
theorem dksL_law_70 : cL_law.data.toList.drop 1793 = dktL_law_70 := dk_seg dksL_law_69 23 rfl rfl
theorem dksL_law_71 : cL_law.data.toList.drop 1817 = dktL_law_71 := dk_seg dksL_law_70 24 rfl rfl
theorem dksL_law_72 : cL_law.data.toList.drop 1840 = dktL_law_72 := dk_seg dksL_law_71 23 rfl rfl
theorem dksL_law_73 : cL_law.data.toList.drop 1862 = dktL_law_73 := dk_seg dksL_law_72 22 rfl rfl
theorem dksL_law_74 : cL_law.data.toList.drop 1885 = dktL_law_74 := dk_seg dksL_law_73 23 rfl rfl
theorem dksL_law_75 : cL_law.data.toList.drop 1909 = dktL_law_75 := dk_seg dksL_law_74 24 rfl rfl
theorem dksL_law_76 : cL_law.data.toList.drop 1933 = dktL_law_76 := dk_seg dksL_law_75 24 rfl rfl
theorem dksL_law_77 : cL_law.data.toList.drop 1957 = dktL_law_77 := dk_seg dksL_law_76 24 rfl rfl
theorem dksL_law_78 : cL_law.data.toList.drop 1981 = dktL_law_78 := dk_seg dksL_law_77 24 rfl rfl
theorem dksL_law_79 : cL_law.data.toList.drop 2004 = dktL_law_79 := dk_seg dksL_law_78 23 rfl rfl
theorem dksL_law_80 : cL_law.data.toList.drop 2028 = dktL_law_80 := dk_seg dksL_law_79 24 rfl rfl
theorem dksL_law_81 : cL_law.data.toList.drop 2050 = dktL_law_81 := dk_seg dksL_law_80 22 rfl rfl
theorem dksL_law_82 : cL_law.data.toList.drop 2074 = dktL_law_82 := dk_seg dksL_law_81 24 rfl rfl
theorem dksL_law_83 : cL_law.data.toList.drop 2096 = dktL_law_83 := dk_seg dksL_law_82 22 rfl rfl
theorem dksL_law_84 : cL_law.data.toList.drop 2118 = dktL_law_84 := dk_seg dksL_law_83 22 rfl rfl
theorem dksL_law_85 : cL_law.data.toList.drop 2142 = dktL_law_85 := dk_seg dksL_law_84 24 rfl rfl
theorem dksL_law_86 : cL_law.data.toList.drop 2164 = dktL_law_86 := dk_seg dksL_law_85 22 rfl rfl
theorem dksL_law_87 : cL_law.data.toList.drop 2186 = dktL_law_87 := dk_seg dksL_law_86 22 rfl rfl
theorem dksL_law_88 : cL_law.data.toList.drop 2210 = dktL_law_88 := dk_seg dksL_law_87 24 rfl rfl
theorem dksL_law_89 : cL_law.data.toList.drop 2232 = dktL_law_89 := dk_seg dksL_law_88 22 rfl rfl
theorem dksL_law_90 : cL_law.data.toList.drop 2254 = dktL_law_90 := dk_seg dksL_law_89 22 rfl rfl
theorem dksL_law_91 : cL_law.data.toList.drop 2278 = dktL_law_91 := dk_seg dksL_law_90 24 rfl rfl
theorem dksL_law_92 : cL_law.data.toList.drop 2302 = dktL_law_92 := dk_seg dksL_law_91 24 rfl rfl
theorem dksL_law_93 : cL_law.data.toList.drop 2324 = dktL_law_93 := dk_seg dksL_law_92 22 rfl rfl
theorem dksL_law_94 : cL_law.data.toList.drop 2347 = dktL_law_94 := dk_seg dksL_law_93 23 rfl rfl
theorem dksL_law_95 : cL_law.data.toList.drop 2371 = dktL_law_95 := dk_seg dksL_law_94 24 rfl rfl
theorem dksL_law_96 : cL_law.data.toList.drop 2395 = dktL_law_96 := dk_seg dksL_law_95 24 rfl rfl
theorem dksL_law_97 : cL_law.data.toList.drop 2418 = dktL_law_97 := dk_seg dksL_law_96 23 rfl rfl
theorem dksL_law_98 : cL_law.data.toList.drop 2442 = dktL_law_98 := dk_seg dksL_law_97 24 rfl rfl
theorem dksL_law_99 : cL_law.data.toList.drop 2466 = dktL_law_99 := dk_seg dksL_law_98 24 rfl rfl
theorem dksL_law_100 : cL_law.data.toList.drop 2489 = dktL_law_100 := dk_seg dksL_law_99 23 rfl rfl
theorem dksL_law_101 : cL_law.data.toList.drop 2513 = dktL_law_101 := dk_seg dksL_law_100 24 rfl rfl
theorem dksL_law_102 : cL_law.data.toList.drop 2536 = dktL_law_102 := dk_seg dksL_law_101 23 rfl rfl
theorem dksL_law_103 : cL_law.data.toList.drop 2560 = dktL_law_103 := dk_seg dksL_law_102 24 rfl rfl
theorem dksL_law_104 : cL_law.data.toList.drop 2584 = dktL_law_104 := dk_seg dksL_law_103 24 rfl rfl
theorem dksL_law_105 : cL_law.data.toList.drop 2606 = dktL_law_105 := dk_seg dksL_law_104 22 rfl rfl
theorem dksL_law_106 : cL_law.data.toList.drop 2630 = dktL_law_106 := dk_seg dksL_law_105 24 rfl rfl
theorem dksL_law_107 : cL_law.data.toList.drop 2654 = dktL_law_107 := dk_seg dksL_law_106 24 rfl rfl
theorem dksL_law_108 : cL_law.data.toList.drop 2678 = dktL_law_108 := dk_seg dksL_law_107 24 rfl rfl
theorem dksL_law_109 : cL_law.data.toList.drop 2702 = dktL_law_109 := dk_seg dksL_law_108 24 rfl rfl
theorem dksL_law_110 : cL_law.data.toList.drop 2726 = dktL_law_110 := dk_seg dksL_law_109 24 rfl rfl
theorem dksL_law_111 : cL_law.data.toList.drop 2749 = dktL_law_111 := dk_seg dksL_law_110 23 rfl rfl
theorem dksL_law_112 : cL_law.data.toList.drop 2772 = dktL_law_112 := dk_seg dksL_law_111 23 rfl rfl
theorem dksL_law_113 : cL_law.data.toList.drop 2796 = dktL_law_113 := dk_seg dksL_law_112 24 rfl rfl
theorem dksL_law_114 : cL_law.data.toList.drop 2820 = dktL_law_114 := dk_seg dksL_law_113 24 rfl rfl
theorem dksL_law_115 : cL_law.data.toList.drop 2844 = dktL_law_115 := dk_seg dksL_law_114 24 rfl rfl
theorem dksL_law_116 : cL_law.data.toList.drop 2868 = dktL_law_116 := dk_seg dksL_law_115 24 rfl rfl
theorem dksL_law_117 : cL_law.data.toList.drop 2891 = dktL_law_117 := dk_seg dksL_law_116 23 rfl rfl
theorem dksL_law_118 : cL_law.data.toList.drop 2913 = dktL_law_118 := dk_seg dksL_law_117 22 rfl rfl
theorem dksL_law_119 : cL_law.data.toList.drop 2935 = dktL_law_119 := dk_seg dksL_law_118 22 rfl rfl
theorem dksL_law_120 : cL_law.data.toList.drop 2958 = dktL_law_120 := dk_seg dksL_law_119 23 rfl rfl
theorem dksL_law_121 : cL_law.data.toList.drop 2982 = dktL_law_121 := dk_seg dksL_law_120 24 rfl rfl
theorem dksL_law_122 : cL_law.data.toList.drop 3006 = dktL_law_122 := dk_seg dksL_law_121 24 rfl rfl
theorem dksL_law_123 : cL_law.data.toList.drop 3029 = dktL_law_123 := dk_seg dksL_law_122 23 rfl rfl
theorem dksL_law_124 : cL_law.data.toList.drop 3053 = dktL_law_124 := dk_seg dksL_law_123 24 rfl rfl
theorem dksL_law_125 : cL_law.data.toList.drop 3077 = dktL_law_125 := dk_seg dksL_law_124 24 rfl rfl
theorem dksL_law_126 : cL_law.data.toList.drop 3099 = dktL_law_126 := dk_seg dksL_law_125 22 rfl rfl
theorem dksL_law_127 : cL_law.data.toList.drop 3123 = dktL_law_127 := dk_seg dksL_law_126 24 rfl rfl
theorem dL_law_0 : decode cL_law 0 = .ok (.new 8, 3) := dk_187 0 8 (dk_at dksL_law_0 0 rfl rfl)
theorem dL_law_3 : decode cL_law 3 = .ok (.dup, 1) := dk_89 (dk_at dksL_law_0 3 rfl rfl)
theorem dL_law_4 : decode cL_law 4 = .ok (.invokespecial 157, 3) := dk_183 0 157 (dk_at dksL_law_0 4 rfl rfl)
theorem dL_law_7 : decode cL_law 7 = .ok (.astore_n 1, 1) := dk_76 (dk_at dksL_law_0 7 rfl rfl)
theorem dL_law_8 : decode cL_law 8 = .ok (.new 158, 3) := dk_187 0 158 (dk_at dksL_law_0 8 rfl rfl)
theorem dL_law_11 : decode cL_law 11 = .ok (.dup, 1) := dk_89 (dk_at dksL_law_0 11 rfl rfl)
theorem dL_law_12 : decode cL_law 12 = .ok (.invokespecial 160, 3) := dk_183 0 160 (dk_at dksL_law_0 12 rfl rfl)
theorem dL_law_15 : decode cL_law 15 = .ok (.astore_n 2, 1) := dk_77 (dk_at dksL_law_0 15 rfl rfl)
theorem dL_law_16 : decode cL_law 16 = .ok (.iconst 1, 1) := dk_4 (dk_at dksL_law_0 16 rfl rfl)
theorem dL_law_17 : decode cL_law 17 = .ok (.newarray .long, 2) := dk_188_11 (dk_at dksL_law_0 17 rfl rfl)
theorem dL_law_19 : decode cL_law 19 = .ok (.astore_n 3, 1) := dk_78 (dk_at dksL_law_0 19 rfl rfl)
theorem dL_law_20 : decode cL_law 20 = .ok (.iconst 0, 1) := dk_3 (dk_at dksL_law_0 20 rfl rfl)
theorem dL_law_21 : decode cL_law 21 = .ok (.istore 4, 2) := dk_54 4 (dk_at dksL_law_0 21 rfl rfl)
theorem dL_law_23 : decode cL_law 23 = .ok (.iload 4, 2) := dk_21 4 (dk_at dksL_law_1 0 rfl rfl)
theorem dL_law_25 : decode cL_law 25 = .ok (.aload_n 0, 1) := dk_42 (dk_at dksL_law_1 2 rfl rfl)
theorem dL_law_26 : decode cL_law 26 = .ok (.arraylength, 1) := dk_190 (dk_at dksL_law_1 3 rfl rfl)
theorem dL_law_27 : decode cL_law 27 = .ok (.bipush 6, 2) := dk_16 6 (dk_at dksL_law_1 4 rfl rfl)
theorem dL_law_29 : decode cL_law 29 = .ok (.isub, 1) := dk_100 (dk_at dksL_law_1 6 rfl rfl)
theorem dL_law_30 : decode cL_law 30 = .ok (.if_icmp .gt 3104, 3) := dk_163 12 32 (dk_at dksL_law_1 7 rfl rfl)
theorem dL_law_33 : decode cL_law 33 = .ok (.aload_n 0, 1) := dk_42 (dk_at dksL_law_1 10 rfl rfl)
theorem dL_law_34 : decode cL_law 34 = .ok (.iload 4, 2) := dk_21 4 (dk_at dksL_law_1 11 rfl rfl)
theorem dL_law_36 : decode cL_law 36 = .ok (.iaload, 1) := dk_46 (dk_at dksL_law_1 13 rfl rfl)
theorem dL_law_37 : decode cL_law 37 = .ok (.bipush 63, 2) := dk_16 63 (dk_at dksL_law_1 14 rfl rfl)
theorem dL_law_39 : decode cL_law 39 = .ok (.iand, 1) := dk_126 (dk_at dksL_law_1 16 rfl rfl)
theorem dL_law_40 : decode cL_law 40 = .ok (.tableswitch 3088 0 40 #[180, 284, 340, 420, 476, 567, 646, 737, 829, 885, 964, 1043, 1134, 1213, 1305, 1349, 1441, 1509, 1577, 1633, 1733, 1825, 1929, 1996, 2064, 2132, 2200, 2243, 2287, 2343, 2411, 2467, 2523, 2590, 2603, 2670, 2750, 2818, 2898, 2978, 3033], 180) := by decide +kernel
theorem dL_law_220 : decode cL_law 220 = .ok (.aload_n 1, 1) := dk_43 (dk_at dksL_law_3 0 rfl rfl)
theorem dL_law_221 : decode cL_law 221 = .ok (.aload_n 0, 1) := dk_42 (dk_at dksL_law_3 1 rfl rfl)
theorem dL_law_222 : decode cL_law 222 = .ok (.iload 4, 2) := dk_21 4 (dk_at dksL_law_3 2 rfl rfl)
theorem dL_law_224 : decode cL_law 224 = .ok (.iconst 1, 1) := dk_4 (dk_at dksL_law_3 4 rfl rfl)
theorem dL_law_225 : decode cL_law 225 = .ok (.iadd, 1) := dk_96 (dk_at dksL_law_3 5 rfl rfl)
theorem dL_law_226 : decode cL_law 226 = .ok (.iaload, 1) := dk_46 (dk_at dksL_law_3 6 rfl rfl)
theorem dL_law_227 : decode cL_law 227 = .ok (.aload_n 0, 1) := dk_42 (dk_at dksL_law_3 7 rfl rfl)
theorem dL_law_228 : decode cL_law 228 = .ok (.iload 4, 2) := dk_21 4 (dk_at dksL_law_3 8 rfl rfl)
theorem dL_law_230 : decode cL_law 230 = .ok (.iconst 2, 1) := dk_5 (dk_at dksL_law_3 10 rfl rfl)
theorem dL_law_231 : decode cL_law 231 = .ok (.iadd, 1) := dk_96 (dk_at dksL_law_3 11 rfl rfl)
theorem dL_law_232 : decode cL_law 232 = .ok (.iaload, 1) := dk_46 (dk_at dksL_law_3 12 rfl rfl)
theorem dL_law_233 : decode cL_law 233 = .ok (.aload_n 0, 1) := dk_42 (dk_at dksL_law_3 13 rfl rfl)
theorem dL_law_234 : decode cL_law 234 = .ok (.iload 4, 2) := dk_21 4 (dk_at dksL_law_3 14 rfl rfl)
theorem dL_law_236 : decode cL_law 236 = .ok (.iconst 3, 1) := dk_6 (dk_at dksL_law_3 16 rfl rfl)
theorem dL_law_237 : decode cL_law 237 = .ok (.iadd, 1) := dk_96 (dk_at dksL_law_3 17 rfl rfl)
theorem dL_law_238 : decode cL_law 238 = .ok (.iaload, 1) := dk_46 (dk_at dksL_law_3 18 rfl rfl)
theorem dL_law_239 : decode cL_law 239 = .ok (.aload_n 0, 1) := dk_42 (dk_at dksL_law_3 19 rfl rfl)
theorem dL_law_240 : decode cL_law 240 = .ok (.iload 4, 2) := dk_21 4 (dk_at dksL_law_3 20 rfl rfl)
theorem dL_law_242 : decode cL_law 242 = .ok (.iconst 4, 1) := dk_7 (dk_at dksL_law_3 22 rfl rfl)
theorem dL_law_243 : decode cL_law 243 = .ok (.iadd, 1) := dk_96 (dk_at dksL_law_3 23 rfl rfl)
theorem dL_law_244 : decode cL_law 244 = .ok (.iaload, 1) := dk_46 (dk_at dksL_law_4 0 rfl rfl)
theorem dL_law_245 : decode cL_law 245 = .ok (.aload_n 0, 1) := dk_42 (dk_at dksL_law_4 1 rfl rfl)
theorem dL_law_246 : decode cL_law 246 = .ok (.iload 4, 2) := dk_21 4 (dk_at dksL_law_4 2 rfl rfl)
theorem dL_law_248 : decode cL_law 248 = .ok (.iconst 5, 1) := dk_8 (dk_at dksL_law_4 4 rfl rfl)
theorem dL_law_249 : decode cL_law 249 = .ok (.iadd, 1) := dk_96 (dk_at dksL_law_4 5 rfl rfl)
theorem dL_law_250 : decode cL_law 250 = .ok (.iaload, 1) := dk_46 (dk_at dksL_law_4 6 rfl rfl)
theorem dL_law_251 : decode cL_law 251 = .ok (.aload_n 3, 1) := dk_45 (dk_at dksL_law_4 7 rfl rfl)
theorem dL_law_252 : decode cL_law 252 = .ok (.invokestatic 161, 3) := dk_184 0 161 (dk_at dksL_law_4 8 rfl rfl)
theorem dL_law_255 : decode cL_law 255 = .ok (.istore 5, 2) := dk_54 5 (dk_at dksL_law_4 11 rfl rfl)
theorem dL_law_257 : decode cL_law 257 = .ok (.aload_n 2, 1) := dk_44 (dk_at dksL_law_4 13 rfl rfl)
theorem dL_law_258 : decode cL_law 258 = .ok (.aload_n 0, 1) := dk_42 (dk_at dksL_law_4 14 rfl rfl)
theorem dL_law_259 : decode cL_law 259 = .ok (.iload 4, 2) := dk_21 4 (dk_at dksL_law_4 15 rfl rfl)
theorem dL_law_261 : decode cL_law 261 = .ok (.iconst 1, 1) := dk_4 (dk_at dksL_law_4 17 rfl rfl)
theorem dL_law_262 : decode cL_law 262 = .ok (.iadd, 1) := dk_96 (dk_at dksL_law_4 18 rfl rfl)
theorem dL_law_263 : decode cL_law 263 = .ok (.iaload, 1) := dk_46 (dk_at dksL_law_4 19 rfl rfl)
theorem dL_law_264 : decode cL_law 264 = .ok (.aload_n 0, 1) := dk_42 (dk_at dksL_law_4 20 rfl rfl)
theorem dL_law_265 : decode cL_law 265 = .ok (.iload 4, 2) := dk_21 4 (dk_at dksL_law_4 21 rfl rfl)
theorem dL_law_267 : decode cL_law 267 = .ok (.iconst 2, 1) := dk_5 (dk_at dksL_law_4 23 rfl rfl)
theorem dL_law_268 : decode cL_law 268 = .ok (.iadd, 1) := dk_96 (dk_at dksL_law_5 0 rfl rfl)
theorem dL_law_269 : decode cL_law 269 = .ok (.iaload, 1) := dk_46 (dk_at dksL_law_5 1 rfl rfl)
theorem dL_law_270 : decode cL_law 270 = .ok (.aload_n 0, 1) := dk_42 (dk_at dksL_law_5 2 rfl rfl)
theorem dL_law_271 : decode cL_law 271 = .ok (.iload 4, 2) := dk_21 4 (dk_at dksL_law_5 3 rfl rfl)
theorem dL_law_273 : decode cL_law 273 = .ok (.iconst 3, 1) := dk_6 (dk_at dksL_law_5 5 rfl rfl)
theorem dL_law_274 : decode cL_law 274 = .ok (.iadd, 1) := dk_96 (dk_at dksL_law_5 6 rfl rfl)
theorem dL_law_275 : decode cL_law 275 = .ok (.iaload, 1) := dk_46 (dk_at dksL_law_5 7 rfl rfl)
theorem dL_law_276 : decode cL_law 276 = .ok (.aload_n 0, 1) := dk_42 (dk_at dksL_law_5 8 rfl rfl)
theorem dL_law_277 : decode cL_law 277 = .ok (.iload 4, 2) := dk_21 4 (dk_at dksL_law_5 9 rfl rfl)
theorem dL_law_279 : decode cL_law 279 = .ok (.iconst 4, 1) := dk_7 (dk_at dksL_law_5 11 rfl rfl)
theorem dL_law_280 : decode cL_law 280 = .ok (.iadd, 1) := dk_96 (dk_at dksL_law_5 12 rfl rfl)
theorem dL_law_281 : decode cL_law 281 = .ok (.iaload, 1) := dk_46 (dk_at dksL_law_5 13 rfl rfl)
theorem dL_law_282 : decode cL_law 282 = .ok (.aload_n 0, 1) := dk_42 (dk_at dksL_law_5 14 rfl rfl)
theorem dL_law_283 : decode cL_law 283 = .ok (.iload 4, 2) := dk_21 4 (dk_at dksL_law_5 15 rfl rfl)
theorem dL_law_285 : decode cL_law 285 = .ok (.iconst 5, 1) := dk_8 (dk_at dksL_law_5 17 rfl rfl)
theorem dL_law_286 : decode cL_law 286 = .ok (.iadd, 1) := dk_96 (dk_at dksL_law_5 18 rfl rfl)
theorem dL_law_287 : decode cL_law 287 = .ok (.iaload, 1) := dk_46 (dk_at dksL_law_5 19 rfl rfl)
theorem dL_law_288 : decode cL_law 288 = .ok (.invokevirtual 166, 3) := dk_182 0 166 (dk_at dksL_law_5 20 rfl rfl)
theorem dL_law_291 : decode cL_law 291 = .ok (.istore 6, 2) := dk_54 6 (dk_at dksL_law_6 0 rfl rfl)
theorem dL_law_293 : decode cL_law 293 = .ok (.aload_n 2, 1) := dk_44 (dk_at dksL_law_6 2 rfl rfl)
theorem dL_law_294 : decode cL_law 294 = .ok (.invokevirtual 167, 3) := dk_182 0 167 (dk_at dksL_law_6 3 rfl rfl)
theorem dL_law_297 : decode cL_law 297 = .ok (.iload 5, 2) := dk_21 5 (dk_at dksL_law_6 6 rfl rfl)
theorem dL_law_299 : decode cL_law 299 = .ok (.if_icmp .eq 5, 3) := dk_159 0 5 (dk_at dksL_law_6 8 rfl rfl)
theorem dL_law_302 : decode cL_law 302 = .ok (.iconst 0, 1) := dk_3 (dk_at dksL_law_6 11 rfl rfl)
theorem dL_law_303 : decode cL_law 303 = .ok (.ireturn, 1) := dk_172 (dk_at dksL_law_6 12 rfl rfl)
theorem dL_law_304 : decode cL_law 304 = .ok (.iload 5, 2) := dk_21 5 (dk_at dksL_law_6 13 rfl rfl)
theorem dL_law_306 : decode cL_law 306 = .ok (.ifCond .ne 15, 3) := dk_154 0 15 (dk_at dksL_law_6 15 rfl rfl)
theorem dL_law_309 : decode cL_law 309 = .ok (.aload_n 3, 1) := dk_45 (dk_at dksL_law_6 18 rfl rfl)
theorem dL_law_310 : decode cL_law 310 = .ok (.iconst 0, 1) := dk_3 (dk_at dksL_law_6 19 rfl rfl)
theorem dL_law_311 : decode cL_law 311 = .ok (.laload, 1) := dk_47 (dk_at dksL_law_6 20 rfl rfl)
theorem dL_law_312 : decode cL_law 312 = .ok (.iload 6, 2) := dk_21 6 (dk_at dksL_law_6 21 rfl rfl)
theorem dL_law_314 : decode cL_law 314 = .ok (.i2l, 1) := dk_133 (dk_at dksL_law_6 23 rfl rfl)
theorem dL_law_315 : decode cL_law 315 = .ok (.lcmp, 1) := dk_148 (dk_at dksL_law_7 0 rfl rfl)
theorem dL_law_316 : decode cL_law 316 = .ok (.ifCond .eq 5, 3) := dk_153 0 5 (dk_at dksL_law_7 1 rfl rfl)
theorem dL_law_319 : decode cL_law 319 = .ok (.iconst 0, 1) := dk_3 (dk_at dksL_law_7 4 rfl rfl)
theorem dL_law_320 : decode cL_law 320 = .ok (.ireturn, 1) := dk_172 (dk_at dksL_law_7 5 rfl rfl)
theorem dL_law_321 : decode cL_law 321 = .ok (.goto 2807, 3) := dk_167 10 247 (dk_at dksL_law_7 6 rfl rfl)
theorem dL_law_324 : decode cL_law 324 = .ok (.aload_n 1, 1) := dk_43 (dk_at dksL_law_7 9 rfl rfl)
theorem dL_law_325 : decode cL_law 325 = .ok (.aload_n 0, 1) := dk_42 (dk_at dksL_law_7 10 rfl rfl)
theorem dL_law_326 : decode cL_law 326 = .ok (.iload 4, 2) := dk_21 4 (dk_at dksL_law_7 11 rfl rfl)
theorem dL_law_328 : decode cL_law 328 = .ok (.iconst 1, 1) := dk_4 (dk_at dksL_law_7 13 rfl rfl)
theorem dL_law_329 : decode cL_law 329 = .ok (.iadd, 1) := dk_96 (dk_at dksL_law_7 14 rfl rfl)
theorem dL_law_330 : decode cL_law 330 = .ok (.iaload, 1) := dk_46 (dk_at dksL_law_7 15 rfl rfl)
theorem dL_law_331 : decode cL_law 331 = .ok (.aload_n 3, 1) := dk_45 (dk_at dksL_law_7 16 rfl rfl)
theorem dL_law_332 : decode cL_law 332 = .ok (.invokestatic 170, 3) := dk_184 0 170 (dk_at dksL_law_7 17 rfl rfl)
theorem dL_law_335 : decode cL_law 335 = .ok (.istore 5, 2) := dk_54 5 (dk_at dksL_law_7 20 rfl rfl)
theorem dL_law_337 : decode cL_law 337 = .ok (.aload_n 2, 1) := dk_44 (dk_at dksL_law_7 22 rfl rfl)
theorem dL_law_338 : decode cL_law 338 = .ok (.aload_n 0, 1) := dk_42 (dk_at dksL_law_7 23 rfl rfl)
theorem dL_law_339 : decode cL_law 339 = .ok (.iload 4, 2) := dk_21 4 (dk_at dksL_law_8 0 rfl rfl)
theorem dL_law_341 : decode cL_law 341 = .ok (.iconst 1, 1) := dk_4 (dk_at dksL_law_8 2 rfl rfl)
theorem dL_law_342 : decode cL_law 342 = .ok (.iadd, 1) := dk_96 (dk_at dksL_law_8 3 rfl rfl)
theorem dL_law_343 : decode cL_law 343 = .ok (.iaload, 1) := dk_46 (dk_at dksL_law_8 4 rfl rfl)
theorem dL_law_344 : decode cL_law 344 = .ok (.invokevirtual 173, 3) := dk_182 0 173 (dk_at dksL_law_8 5 rfl rfl)
theorem dL_law_347 : decode cL_law 347 = .ok (.istore 6, 2) := dk_54 6 (dk_at dksL_law_8 8 rfl rfl)
theorem dL_law_349 : decode cL_law 349 = .ok (.aload_n 2, 1) := dk_44 (dk_at dksL_law_8 10 rfl rfl)
theorem dL_law_350 : decode cL_law 350 = .ok (.invokevirtual 167, 3) := dk_182 0 167 (dk_at dksL_law_8 11 rfl rfl)
theorem dL_law_353 : decode cL_law 353 = .ok (.iload 5, 2) := dk_21 5 (dk_at dksL_law_8 14 rfl rfl)
theorem dL_law_355 : decode cL_law 355 = .ok (.if_icmp .eq 5, 3) := dk_159 0 5 (dk_at dksL_law_8 16 rfl rfl)
theorem dL_law_358 : decode cL_law 358 = .ok (.iconst 0, 1) := dk_3 (dk_at dksL_law_8 19 rfl rfl)
theorem dL_law_359 : decode cL_law 359 = .ok (.ireturn, 1) := dk_172 (dk_at dksL_law_8 20 rfl rfl)
theorem dL_law_360 : decode cL_law 360 = .ok (.iload 5, 2) := dk_21 5 (dk_at dksL_law_8 21 rfl rfl)
theorem dL_law_362 : decode cL_law 362 = .ok (.ifCond .ne 15, 3) := dk_154 0 15 (dk_at dksL_law_9 0 rfl rfl)
theorem dL_law_365 : decode cL_law 365 = .ok (.aload_n 3, 1) := dk_45 (dk_at dksL_law_9 3 rfl rfl)
theorem dL_law_366 : decode cL_law 366 = .ok (.iconst 0, 1) := dk_3 (dk_at dksL_law_9 4 rfl rfl)
theorem dL_law_367 : decode cL_law 367 = .ok (.laload, 1) := dk_47 (dk_at dksL_law_9 5 rfl rfl)
theorem dL_law_368 : decode cL_law 368 = .ok (.iload 6, 2) := dk_21 6 (dk_at dksL_law_9 6 rfl rfl)
theorem dL_law_370 : decode cL_law 370 = .ok (.i2l, 1) := dk_133 (dk_at dksL_law_9 8 rfl rfl)
theorem dL_law_371 : decode cL_law 371 = .ok (.lcmp, 1) := dk_148 (dk_at dksL_law_9 9 rfl rfl)
theorem dL_law_372 : decode cL_law 372 = .ok (.ifCond .eq 5, 3) := dk_153 0 5 (dk_at dksL_law_9 10 rfl rfl)
theorem dL_law_375 : decode cL_law 375 = .ok (.iconst 0, 1) := dk_3 (dk_at dksL_law_9 13 rfl rfl)
theorem dL_law_376 : decode cL_law 376 = .ok (.ireturn, 1) := dk_172 (dk_at dksL_law_9 14 rfl rfl)
theorem dL_law_377 : decode cL_law 377 = .ok (.goto 2751, 3) := dk_167 10 191 (dk_at dksL_law_9 15 rfl rfl)
theorem dL_law_380 : decode cL_law 380 = .ok (.aload_n 1, 1) := dk_43 (dk_at dksL_law_9 18 rfl rfl)
theorem dL_law_381 : decode cL_law 381 = .ok (.aload_n 0, 1) := dk_42 (dk_at dksL_law_9 19 rfl rfl)
theorem dL_law_382 : decode cL_law 382 = .ok (.iload 4, 2) := dk_21 4 (dk_at dksL_law_9 20 rfl rfl)
theorem dL_law_384 : decode cL_law 384 = .ok (.iconst 1, 1) := dk_4 (dk_at dksL_law_9 22 rfl rfl)
theorem dL_law_385 : decode cL_law 385 = .ok (.iadd, 1) := dk_96 (dk_at dksL_law_9 23 rfl rfl)
theorem dL_law_386 : decode cL_law 386 = .ok (.iaload, 1) := dk_46 (dk_at dksL_law_10 0 rfl rfl)
theorem dL_law_387 : decode cL_law 387 = .ok (.aload_n 0, 1) := dk_42 (dk_at dksL_law_10 1 rfl rfl)
theorem dL_law_388 : decode cL_law 388 = .ok (.iload 4, 2) := dk_21 4 (dk_at dksL_law_10 2 rfl rfl)
theorem dL_law_390 : decode cL_law 390 = .ok (.iconst 2, 1) := dk_5 (dk_at dksL_law_10 4 rfl rfl)
theorem dL_law_391 : decode cL_law 391 = .ok (.iadd, 1) := dk_96 (dk_at dksL_law_10 5 rfl rfl)
theorem dL_law_392 : decode cL_law 392 = .ok (.iaload, 1) := dk_46 (dk_at dksL_law_10 6 rfl rfl)
theorem dL_law_393 : decode cL_law 393 = .ok (.aload_n 0, 1) := dk_42 (dk_at dksL_law_10 7 rfl rfl)
theorem dL_law_394 : decode cL_law 394 = .ok (.iload 4, 2) := dk_21 4 (dk_at dksL_law_10 8 rfl rfl)
theorem dL_law_396 : decode cL_law 396 = .ok (.iconst 3, 1) := dk_6 (dk_at dksL_law_10 10 rfl rfl)
theorem dL_law_397 : decode cL_law 397 = .ok (.iadd, 1) := dk_96 (dk_at dksL_law_10 11 rfl rfl)
theorem dL_law_398 : decode cL_law 398 = .ok (.iaload, 1) := dk_46 (dk_at dksL_law_10 12 rfl rfl)
theorem dL_law_399 : decode cL_law 399 = .ok (.aload_n 3, 1) := dk_45 (dk_at dksL_law_10 13 rfl rfl)
theorem dL_law_400 : decode cL_law 400 = .ok (.invokestatic 174, 3) := dk_184 0 174 (dk_at dksL_law_10 14 rfl rfl)
theorem dL_law_403 : decode cL_law 403 = .ok (.istore 5, 2) := dk_54 5 (dk_at dksL_law_10 17 rfl rfl)
theorem dL_law_405 : decode cL_law 405 = .ok (.aload_n 2, 1) := dk_44 (dk_at dksL_law_10 19 rfl rfl)
theorem dL_law_406 : decode cL_law 406 = .ok (.aload_n 0, 1) := dk_42 (dk_at dksL_law_10 20 rfl rfl)
theorem dL_law_407 : decode cL_law 407 = .ok (.iload 4, 2) := dk_21 4 (dk_at dksL_law_10 21 rfl rfl)
theorem dL_law_409 : decode cL_law 409 = .ok (.iconst 1, 1) := dk_4 (dk_at dksL_law_10 23 rfl rfl)
theorem dL_law_410 : decode cL_law 410 = .ok (.iadd, 1) := dk_96 (dk_at dksL_law_11 0 rfl rfl)
theorem dL_law_411 : decode cL_law 411 = .ok (.iaload, 1) := dk_46 (dk_at dksL_law_11 1 rfl rfl)
theorem dL_law_412 : decode cL_law 412 = .ok (.aload_n 0, 1) := dk_42 (dk_at dksL_law_11 2 rfl rfl)
theorem dL_law_413 : decode cL_law 413 = .ok (.iload 4, 2) := dk_21 4 (dk_at dksL_law_11 3 rfl rfl)
theorem dL_law_415 : decode cL_law 415 = .ok (.iconst 2, 1) := dk_5 (dk_at dksL_law_11 5 rfl rfl)
theorem dL_law_416 : decode cL_law 416 = .ok (.iadd, 1) := dk_96 (dk_at dksL_law_11 6 rfl rfl)
theorem dL_law_417 : decode cL_law 417 = .ok (.iaload, 1) := dk_46 (dk_at dksL_law_11 7 rfl rfl)
theorem dL_law_418 : decode cL_law 418 = .ok (.aload_n 0, 1) := dk_42 (dk_at dksL_law_11 8 rfl rfl)
theorem dL_law_419 : decode cL_law 419 = .ok (.iload 4, 2) := dk_21 4 (dk_at dksL_law_11 9 rfl rfl)
theorem dL_law_421 : decode cL_law 421 = .ok (.iconst 3, 1) := dk_6 (dk_at dksL_law_11 11 rfl rfl)
theorem dL_law_422 : decode cL_law 422 = .ok (.iadd, 1) := dk_96 (dk_at dksL_law_11 12 rfl rfl)
theorem dL_law_423 : decode cL_law 423 = .ok (.iaload, 1) := dk_46 (dk_at dksL_law_11 13 rfl rfl)
theorem dL_law_424 : decode cL_law 424 = .ok (.invokevirtual 177, 3) := dk_182 0 177 (dk_at dksL_law_11 14 rfl rfl)
theorem dL_law_427 : decode cL_law 427 = .ok (.istore 6, 2) := dk_54 6 (dk_at dksL_law_11 17 rfl rfl)
theorem dL_law_429 : decode cL_law 429 = .ok (.aload_n 2, 1) := dk_44 (dk_at dksL_law_11 19 rfl rfl)
theorem dL_law_430 : decode cL_law 430 = .ok (.invokevirtual 167, 3) := dk_182 0 167 (dk_at dksL_law_11 20 rfl rfl)
theorem dL_law_433 : decode cL_law 433 = .ok (.iload 5, 2) := dk_21 5 (dk_at dksL_law_12 0 rfl rfl)
theorem dL_law_435 : decode cL_law 435 = .ok (.if_icmp .eq 5, 3) := dk_159 0 5 (dk_at dksL_law_12 2 rfl rfl)
theorem dL_law_438 : decode cL_law 438 = .ok (.iconst 0, 1) := dk_3 (dk_at dksL_law_12 5 rfl rfl)
theorem dL_law_439 : decode cL_law 439 = .ok (.ireturn, 1) := dk_172 (dk_at dksL_law_12 6 rfl rfl)
theorem dL_law_440 : decode cL_law 440 = .ok (.iload 5, 2) := dk_21 5 (dk_at dksL_law_12 7 rfl rfl)
theorem dL_law_442 : decode cL_law 442 = .ok (.ifCond .ne 15, 3) := dk_154 0 15 (dk_at dksL_law_12 9 rfl rfl)
theorem dL_law_445 : decode cL_law 445 = .ok (.aload_n 3, 1) := dk_45 (dk_at dksL_law_12 12 rfl rfl)
theorem dL_law_446 : decode cL_law 446 = .ok (.iconst 0, 1) := dk_3 (dk_at dksL_law_12 13 rfl rfl)
theorem dL_law_447 : decode cL_law 447 = .ok (.laload, 1) := dk_47 (dk_at dksL_law_12 14 rfl rfl)
theorem dL_law_448 : decode cL_law 448 = .ok (.iload 6, 2) := dk_21 6 (dk_at dksL_law_12 15 rfl rfl)
theorem dL_law_450 : decode cL_law 450 = .ok (.i2l, 1) := dk_133 (dk_at dksL_law_12 17 rfl rfl)
theorem dL_law_451 : decode cL_law 451 = .ok (.lcmp, 1) := dk_148 (dk_at dksL_law_12 18 rfl rfl)
theorem dL_law_452 : decode cL_law 452 = .ok (.ifCond .eq 5, 3) := dk_153 0 5 (dk_at dksL_law_12 19 rfl rfl)
theorem dL_law_455 : decode cL_law 455 = .ok (.iconst 0, 1) := dk_3 (dk_at dksL_law_12 22 rfl rfl)
theorem dL_law_456 : decode cL_law 456 = .ok (.ireturn, 1) := dk_172 (dk_at dksL_law_12 23 rfl rfl)
theorem dL_law_457 : decode cL_law 457 = .ok (.goto 2671, 3) := dk_167 10 111 (dk_at dksL_law_13 0 rfl rfl)
theorem dL_law_460 : decode cL_law 460 = .ok (.aload_n 1, 1) := dk_43 (dk_at dksL_law_13 3 rfl rfl)
theorem dL_law_461 : decode cL_law 461 = .ok (.aload_n 0, 1) := dk_42 (dk_at dksL_law_13 4 rfl rfl)
theorem dL_law_462 : decode cL_law 462 = .ok (.iload 4, 2) := dk_21 4 (dk_at dksL_law_13 5 rfl rfl)
theorem dL_law_464 : decode cL_law 464 = .ok (.iconst 1, 1) := dk_4 (dk_at dksL_law_13 7 rfl rfl)
theorem dL_law_465 : decode cL_law 465 = .ok (.iadd, 1) := dk_96 (dk_at dksL_law_13 8 rfl rfl)
theorem dL_law_466 : decode cL_law 466 = .ok (.iaload, 1) := dk_46 (dk_at dksL_law_13 9 rfl rfl)
theorem dL_law_467 : decode cL_law 467 = .ok (.aload_n 3, 1) := dk_45 (dk_at dksL_law_13 10 rfl rfl)
theorem dL_law_468 : decode cL_law 468 = .ok (.invokestatic 178, 3) := dk_184 0 178 (dk_at dksL_law_13 11 rfl rfl)
theorem dL_law_471 : decode cL_law 471 = .ok (.istore 5, 2) := dk_54 5 (dk_at dksL_law_13 14 rfl rfl)
theorem dL_law_473 : decode cL_law 473 = .ok (.aload_n 2, 1) := dk_44 (dk_at dksL_law_13 16 rfl rfl)
theorem dL_law_474 : decode cL_law 474 = .ok (.aload_n 0, 1) := dk_42 (dk_at dksL_law_13 17 rfl rfl)
theorem dL_law_475 : decode cL_law 475 = .ok (.iload 4, 2) := dk_21 4 (dk_at dksL_law_13 18 rfl rfl)
theorem dL_law_477 : decode cL_law 477 = .ok (.iconst 1, 1) := dk_4 (dk_at dksL_law_13 20 rfl rfl)
theorem dL_law_478 : decode cL_law 478 = .ok (.iadd, 1) := dk_96 (dk_at dksL_law_13 21 rfl rfl)
theorem dL_law_479 : decode cL_law 479 = .ok (.iaload, 1) := dk_46 (dk_at dksL_law_13 22 rfl rfl)
theorem dL_law_480 : decode cL_law 480 = .ok (.invokevirtual 180, 3) := dk_182 0 180 (dk_at dksL_law_14 0 rfl rfl)
theorem dL_law_483 : decode cL_law 483 = .ok (.istore 6, 2) := dk_54 6 (dk_at dksL_law_14 3 rfl rfl)
theorem dL_law_485 : decode cL_law 485 = .ok (.aload_n 2, 1) := dk_44 (dk_at dksL_law_14 5 rfl rfl)
theorem dL_law_486 : decode cL_law 486 = .ok (.invokevirtual 167, 3) := dk_182 0 167 (dk_at dksL_law_14 6 rfl rfl)
theorem dL_law_489 : decode cL_law 489 = .ok (.iload 5, 2) := dk_21 5 (dk_at dksL_law_14 9 rfl rfl)
theorem dL_law_491 : decode cL_law 491 = .ok (.if_icmp .eq 5, 3) := dk_159 0 5 (dk_at dksL_law_14 11 rfl rfl)
theorem dL_law_494 : decode cL_law 494 = .ok (.iconst 0, 1) := dk_3 (dk_at dksL_law_14 14 rfl rfl)
theorem dL_law_495 : decode cL_law 495 = .ok (.ireturn, 1) := dk_172 (dk_at dksL_law_14 15 rfl rfl)
theorem dL_law_496 : decode cL_law 496 = .ok (.iload 5, 2) := dk_21 5 (dk_at dksL_law_14 16 rfl rfl)
theorem dL_law_498 : decode cL_law 498 = .ok (.ifCond .ne 15, 3) := dk_154 0 15 (dk_at dksL_law_14 18 rfl rfl)
theorem dL_law_501 : decode cL_law 501 = .ok (.aload_n 3, 1) := dk_45 (dk_at dksL_law_14 21 rfl rfl)
theorem dL_law_502 : decode cL_law 502 = .ok (.iconst 0, 1) := dk_3 (dk_at dksL_law_14 22 rfl rfl)
theorem dL_law_503 : decode cL_law 503 = .ok (.laload, 1) := dk_47 (dk_at dksL_law_14 23 rfl rfl)
theorem dL_law_504 : decode cL_law 504 = .ok (.iload 6, 2) := dk_21 6 (dk_at dksL_law_15 0 rfl rfl)
theorem dL_law_506 : decode cL_law 506 = .ok (.i2l, 1) := dk_133 (dk_at dksL_law_15 2 rfl rfl)
theorem dL_law_507 : decode cL_law 507 = .ok (.lcmp, 1) := dk_148 (dk_at dksL_law_15 3 rfl rfl)
theorem dL_law_508 : decode cL_law 508 = .ok (.ifCond .eq 5, 3) := dk_153 0 5 (dk_at dksL_law_15 4 rfl rfl)
theorem dL_law_511 : decode cL_law 511 = .ok (.iconst 0, 1) := dk_3 (dk_at dksL_law_15 7 rfl rfl)
theorem dL_law_512 : decode cL_law 512 = .ok (.ireturn, 1) := dk_172 (dk_at dksL_law_15 8 rfl rfl)
theorem dL_law_513 : decode cL_law 513 = .ok (.goto 2615, 3) := dk_167 10 55 (dk_at dksL_law_15 9 rfl rfl)
theorem dL_law_516 : decode cL_law 516 = .ok (.aload_n 1, 1) := dk_43 (dk_at dksL_law_15 12 rfl rfl)
theorem dL_law_517 : decode cL_law 517 = .ok (.aload_n 0, 1) := dk_42 (dk_at dksL_law_15 13 rfl rfl)
theorem dL_law_518 : decode cL_law 518 = .ok (.iload 4, 2) := dk_21 4 (dk_at dksL_law_15 14 rfl rfl)
theorem dL_law_520 : decode cL_law 520 = .ok (.iconst 1, 1) := dk_4 (dk_at dksL_law_15 16 rfl rfl)
theorem dL_law_521 : decode cL_law 521 = .ok (.iadd, 1) := dk_96 (dk_at dksL_law_15 17 rfl rfl)
theorem dL_law_522 : decode cL_law 522 = .ok (.iaload, 1) := dk_46 (dk_at dksL_law_15 18 rfl rfl)
theorem dL_law_523 : decode cL_law 523 = .ok (.aload_n 0, 1) := dk_42 (dk_at dksL_law_15 19 rfl rfl)
theorem dL_law_524 : decode cL_law 524 = .ok (.iload 4, 2) := dk_21 4 (dk_at dksL_law_15 20 rfl rfl)
theorem dL_law_526 : decode cL_law 526 = .ok (.iconst 2, 1) := dk_5 (dk_at dksL_law_15 22 rfl rfl)
theorem dL_law_527 : decode cL_law 527 = .ok (.iadd, 1) := dk_96 (dk_at dksL_law_15 23 rfl rfl)
theorem dL_law_528 : decode cL_law 528 = .ok (.iaload, 1) := dk_46 (dk_at dksL_law_16 0 rfl rfl)
theorem dL_law_529 : decode cL_law 529 = .ok (.aload_n 0, 1) := dk_42 (dk_at dksL_law_16 1 rfl rfl)
theorem dL_law_530 : decode cL_law 530 = .ok (.iload 4, 2) := dk_21 4 (dk_at dksL_law_16 2 rfl rfl)
theorem dL_law_532 : decode cL_law 532 = .ok (.iconst 3, 1) := dk_6 (dk_at dksL_law_16 4 rfl rfl)
theorem dL_law_533 : decode cL_law 533 = .ok (.iadd, 1) := dk_96 (dk_at dksL_law_16 5 rfl rfl)
theorem dL_law_534 : decode cL_law 534 = .ok (.iaload, 1) := dk_46 (dk_at dksL_law_16 6 rfl rfl)
theorem dL_law_535 : decode cL_law 535 = .ok (.aload_n 0, 1) := dk_42 (dk_at dksL_law_16 7 rfl rfl)
theorem dL_law_536 : decode cL_law 536 = .ok (.iload 4, 2) := dk_21 4 (dk_at dksL_law_16 8 rfl rfl)
theorem dL_law_538 : decode cL_law 538 = .ok (.iconst 4, 1) := dk_7 (dk_at dksL_law_16 10 rfl rfl)
theorem dL_law_539 : decode cL_law 539 = .ok (.iadd, 1) := dk_96 (dk_at dksL_law_16 11 rfl rfl)
theorem dL_law_540 : decode cL_law 540 = .ok (.iaload, 1) := dk_46 (dk_at dksL_law_16 12 rfl rfl)
theorem dL_law_541 : decode cL_law 541 = .ok (.aload_n 3, 1) := dk_45 (dk_at dksL_law_16 13 rfl rfl)
theorem dL_law_542 : decode cL_law 542 = .ok (.invokestatic 181, 3) := dk_184 0 181 (dk_at dksL_law_16 14 rfl rfl)
theorem dL_law_545 : decode cL_law 545 = .ok (.istore 5, 2) := dk_54 5 (dk_at dksL_law_16 17 rfl rfl)
theorem dL_law_547 : decode cL_law 547 = .ok (.aload_n 2, 1) := dk_44 (dk_at dksL_law_16 19 rfl rfl)
theorem dL_law_548 : decode cL_law 548 = .ok (.aload_n 0, 1) := dk_42 (dk_at dksL_law_16 20 rfl rfl)
theorem dL_law_549 : decode cL_law 549 = .ok (.iload 4, 2) := dk_21 4 (dk_at dksL_law_16 21 rfl rfl)
theorem dL_law_551 : decode cL_law 551 = .ok (.iconst 1, 1) := dk_4 (dk_at dksL_law_16 23 rfl rfl)
theorem dL_law_552 : decode cL_law 552 = .ok (.iadd, 1) := dk_96 (dk_at dksL_law_17 0 rfl rfl)
theorem dL_law_553 : decode cL_law 553 = .ok (.iaload, 1) := dk_46 (dk_at dksL_law_17 1 rfl rfl)
theorem dL_law_554 : decode cL_law 554 = .ok (.aload_n 0, 1) := dk_42 (dk_at dksL_law_17 2 rfl rfl)
theorem dL_law_555 : decode cL_law 555 = .ok (.iload 4, 2) := dk_21 4 (dk_at dksL_law_17 3 rfl rfl)
theorem dL_law_557 : decode cL_law 557 = .ok (.iconst 2, 1) := dk_5 (dk_at dksL_law_17 5 rfl rfl)
theorem dL_law_558 : decode cL_law 558 = .ok (.iadd, 1) := dk_96 (dk_at dksL_law_17 6 rfl rfl)
theorem dL_law_559 : decode cL_law 559 = .ok (.iaload, 1) := dk_46 (dk_at dksL_law_17 7 rfl rfl)
theorem dL_law_560 : decode cL_law 560 = .ok (.aload_n 0, 1) := dk_42 (dk_at dksL_law_17 8 rfl rfl)
theorem dL_law_561 : decode cL_law 561 = .ok (.iload 4, 2) := dk_21 4 (dk_at dksL_law_17 9 rfl rfl)
theorem dL_law_563 : decode cL_law 563 = .ok (.iconst 3, 1) := dk_6 (dk_at dksL_law_17 11 rfl rfl)
theorem dL_law_564 : decode cL_law 564 = .ok (.iadd, 1) := dk_96 (dk_at dksL_law_17 12 rfl rfl)
theorem dL_law_565 : decode cL_law 565 = .ok (.iaload, 1) := dk_46 (dk_at dksL_law_17 13 rfl rfl)
theorem dL_law_566 : decode cL_law 566 = .ok (.aload_n 0, 1) := dk_42 (dk_at dksL_law_17 14 rfl rfl)
theorem dL_law_567 : decode cL_law 567 = .ok (.iload 4, 2) := dk_21 4 (dk_at dksL_law_17 15 rfl rfl)
theorem dL_law_569 : decode cL_law 569 = .ok (.iconst 4, 1) := dk_7 (dk_at dksL_law_17 17 rfl rfl)
theorem dL_law_570 : decode cL_law 570 = .ok (.iadd, 1) := dk_96 (dk_at dksL_law_17 18 rfl rfl)
theorem dL_law_571 : decode cL_law 571 = .ok (.iaload, 1) := dk_46 (dk_at dksL_law_17 19 rfl rfl)
theorem dL_law_572 : decode cL_law 572 = .ok (.invokevirtual 184, 3) := dk_182 0 184 (dk_at dksL_law_17 20 rfl rfl)
theorem dL_law_575 : decode cL_law 575 = .ok (.lstore 6, 2) := dk_55 6 (dk_at dksL_law_18 0 rfl rfl)
theorem dL_law_577 : decode cL_law 577 = .ok (.aload_n 2, 1) := dk_44 (dk_at dksL_law_18 2 rfl rfl)
theorem dL_law_578 : decode cL_law 578 = .ok (.invokevirtual 167, 3) := dk_182 0 167 (dk_at dksL_law_18 3 rfl rfl)
theorem dL_law_581 : decode cL_law 581 = .ok (.iload 5, 2) := dk_21 5 (dk_at dksL_law_18 6 rfl rfl)
theorem dL_law_583 : decode cL_law 583 = .ok (.if_icmp .eq 5, 3) := dk_159 0 5 (dk_at dksL_law_18 8 rfl rfl)
theorem dL_law_586 : decode cL_law 586 = .ok (.iconst 0, 1) := dk_3 (dk_at dksL_law_18 11 rfl rfl)
theorem dL_law_587 : decode cL_law 587 = .ok (.ireturn, 1) := dk_172 (dk_at dksL_law_18 12 rfl rfl)
theorem dL_law_588 : decode cL_law 588 = .ok (.iload 5, 2) := dk_21 5 (dk_at dksL_law_18 13 rfl rfl)
theorem dL_law_590 : decode cL_law 590 = .ok (.ifCond .ne 14, 3) := dk_154 0 14 (dk_at dksL_law_18 15 rfl rfl)
theorem dL_law_593 : decode cL_law 593 = .ok (.aload_n 3, 1) := dk_45 (dk_at dksL_law_18 18 rfl rfl)
theorem dL_law_594 : decode cL_law 594 = .ok (.iconst 0, 1) := dk_3 (dk_at dksL_law_18 19 rfl rfl)
theorem dL_law_595 : decode cL_law 595 = .ok (.laload, 1) := dk_47 (dk_at dksL_law_18 20 rfl rfl)
theorem dL_law_596 : decode cL_law 596 = .ok (.lload 6, 2) := dk_22 6 (dk_at dksL_law_18 21 rfl rfl)
theorem dL_law_598 : decode cL_law 598 = .ok (.lcmp, 1) := dk_148 (dk_at dksL_law_18 23 rfl rfl)
theorem dL_law_599 : decode cL_law 599 = .ok (.ifCond .eq 5, 3) := dk_153 0 5 (dk_at dksL_law_19 0 rfl rfl)
theorem dL_law_602 : decode cL_law 602 = .ok (.iconst 0, 1) := dk_3 (dk_at dksL_law_19 3 rfl rfl)
theorem dL_law_603 : decode cL_law 603 = .ok (.ireturn, 1) := dk_172 (dk_at dksL_law_19 4 rfl rfl)
theorem dL_law_604 : decode cL_law 604 = .ok (.goto 2524, 3) := dk_167 9 220 (dk_at dksL_law_19 5 rfl rfl)
theorem dL_law_607 : decode cL_law 607 = .ok (.aload_n 1, 1) := dk_43 (dk_at dksL_law_19 8 rfl rfl)
theorem dL_law_608 : decode cL_law 608 = .ok (.aload_n 0, 1) := dk_42 (dk_at dksL_law_19 9 rfl rfl)
theorem dL_law_609 : decode cL_law 609 = .ok (.iload 4, 2) := dk_21 4 (dk_at dksL_law_19 10 rfl rfl)
theorem dL_law_611 : decode cL_law 611 = .ok (.iconst 1, 1) := dk_4 (dk_at dksL_law_19 12 rfl rfl)
theorem dL_law_612 : decode cL_law 612 = .ok (.iadd, 1) := dk_96 (dk_at dksL_law_19 13 rfl rfl)
theorem dL_law_613 : decode cL_law 613 = .ok (.iaload, 1) := dk_46 (dk_at dksL_law_19 14 rfl rfl)
theorem dL_law_614 : decode cL_law 614 = .ok (.aload_n 0, 1) := dk_42 (dk_at dksL_law_19 15 rfl rfl)
theorem dL_law_615 : decode cL_law 615 = .ok (.iload 4, 2) := dk_21 4 (dk_at dksL_law_19 16 rfl rfl)
theorem dL_law_617 : decode cL_law 617 = .ok (.iconst 2, 1) := dk_5 (dk_at dksL_law_19 18 rfl rfl)
theorem dL_law_618 : decode cL_law 618 = .ok (.iadd, 1) := dk_96 (dk_at dksL_law_19 19 rfl rfl)
theorem dL_law_619 : decode cL_law 619 = .ok (.iaload, 1) := dk_46 (dk_at dksL_law_19 20 rfl rfl)
theorem dL_law_620 : decode cL_law 620 = .ok (.aload_n 0, 1) := dk_42 (dk_at dksL_law_19 21 rfl rfl)
theorem dL_law_621 : decode cL_law 621 = .ok (.iload 4, 2) := dk_21 4 (dk_at dksL_law_19 22 rfl rfl)
theorem dL_law_623 : decode cL_law 623 = .ok (.iconst 3, 1) := dk_6 (dk_at dksL_law_20 0 rfl rfl)
theorem dL_law_624 : decode cL_law 624 = .ok (.iadd, 1) := dk_96 (dk_at dksL_law_20 1 rfl rfl)
theorem dL_law_625 : decode cL_law 625 = .ok (.iaload, 1) := dk_46 (dk_at dksL_law_20 2 rfl rfl)
theorem dL_law_626 : decode cL_law 626 = .ok (.aload_n 3, 1) := dk_45 (dk_at dksL_law_20 3 rfl rfl)
theorem dL_law_627 : decode cL_law 627 = .ok (.invokestatic 185, 3) := dk_184 0 185 (dk_at dksL_law_20 4 rfl rfl)
theorem dL_law_630 : decode cL_law 630 = .ok (.istore 5, 2) := dk_54 5 (dk_at dksL_law_20 7 rfl rfl)
theorem dL_law_632 : decode cL_law 632 = .ok (.aload_n 2, 1) := dk_44 (dk_at dksL_law_20 9 rfl rfl)
theorem dL_law_633 : decode cL_law 633 = .ok (.aload_n 0, 1) := dk_42 (dk_at dksL_law_20 10 rfl rfl)
theorem dL_law_634 : decode cL_law 634 = .ok (.iload 4, 2) := dk_21 4 (dk_at dksL_law_20 11 rfl rfl)
theorem dL_law_636 : decode cL_law 636 = .ok (.iconst 1, 1) := dk_4 (dk_at dksL_law_20 13 rfl rfl)
theorem dL_law_637 : decode cL_law 637 = .ok (.iadd, 1) := dk_96 (dk_at dksL_law_20 14 rfl rfl)
theorem dL_law_638 : decode cL_law 638 = .ok (.iaload, 1) := dk_46 (dk_at dksL_law_20 15 rfl rfl)
theorem dL_law_639 : decode cL_law 639 = .ok (.aload_n 0, 1) := dk_42 (dk_at dksL_law_20 16 rfl rfl)
theorem dL_law_640 : decode cL_law 640 = .ok (.iload 4, 2) := dk_21 4 (dk_at dksL_law_20 17 rfl rfl)
theorem dL_law_642 : decode cL_law 642 = .ok (.iconst 2, 1) := dk_5 (dk_at dksL_law_20 19 rfl rfl)
theorem dL_law_643 : decode cL_law 643 = .ok (.iadd, 1) := dk_96 (dk_at dksL_law_20 20 rfl rfl)
theorem dL_law_644 : decode cL_law 644 = .ok (.iaload, 1) := dk_46 (dk_at dksL_law_20 21 rfl rfl)
theorem dL_law_645 : decode cL_law 645 = .ok (.aload_n 0, 1) := dk_42 (dk_at dksL_law_20 22 rfl rfl)
theorem dL_law_646 : decode cL_law 646 = .ok (.iload 4, 2) := dk_21 4 (dk_at dksL_law_21 0 rfl rfl)
theorem dL_law_648 : decode cL_law 648 = .ok (.iconst 3, 1) := dk_6 (dk_at dksL_law_21 2 rfl rfl)
theorem dL_law_649 : decode cL_law 649 = .ok (.iadd, 1) := dk_96 (dk_at dksL_law_21 3 rfl rfl)
theorem dL_law_650 : decode cL_law 650 = .ok (.iaload, 1) := dk_46 (dk_at dksL_law_21 4 rfl rfl)
theorem dL_law_651 : decode cL_law 651 = .ok (.invokevirtual 187, 3) := dk_182 0 187 (dk_at dksL_law_21 5 rfl rfl)
theorem dL_law_654 : decode cL_law 654 = .ok (.lstore 6, 2) := dk_55 6 (dk_at dksL_law_21 8 rfl rfl)
theorem dL_law_656 : decode cL_law 656 = .ok (.aload_n 2, 1) := dk_44 (dk_at dksL_law_21 10 rfl rfl)
theorem dL_law_657 : decode cL_law 657 = .ok (.invokevirtual 167, 3) := dk_182 0 167 (dk_at dksL_law_21 11 rfl rfl)
theorem dL_law_660 : decode cL_law 660 = .ok (.iload 5, 2) := dk_21 5 (dk_at dksL_law_21 14 rfl rfl)
theorem dL_law_662 : decode cL_law 662 = .ok (.if_icmp .eq 5, 3) := dk_159 0 5 (dk_at dksL_law_21 16 rfl rfl)
theorem dL_law_665 : decode cL_law 665 = .ok (.iconst 0, 1) := dk_3 (dk_at dksL_law_21 19 rfl rfl)
theorem dL_law_666 : decode cL_law 666 = .ok (.ireturn, 1) := dk_172 (dk_at dksL_law_21 20 rfl rfl)
theorem dL_law_667 : decode cL_law 667 = .ok (.iload 5, 2) := dk_21 5 (dk_at dksL_law_21 21 rfl rfl)
theorem dL_law_669 : decode cL_law 669 = .ok (.ifCond .ne 14, 3) := dk_154 0 14 (dk_at dksL_law_22 0 rfl rfl)
theorem dL_law_672 : decode cL_law 672 = .ok (.aload_n 3, 1) := dk_45 (dk_at dksL_law_22 3 rfl rfl)
theorem dL_law_673 : decode cL_law 673 = .ok (.iconst 0, 1) := dk_3 (dk_at dksL_law_22 4 rfl rfl)
theorem dL_law_674 : decode cL_law 674 = .ok (.laload, 1) := dk_47 (dk_at dksL_law_22 5 rfl rfl)
theorem dL_law_675 : decode cL_law 675 = .ok (.lload 6, 2) := dk_22 6 (dk_at dksL_law_22 6 rfl rfl)
theorem dL_law_677 : decode cL_law 677 = .ok (.lcmp, 1) := dk_148 (dk_at dksL_law_22 8 rfl rfl)
theorem dL_law_678 : decode cL_law 678 = .ok (.ifCond .eq 5, 3) := dk_153 0 5 (dk_at dksL_law_22 9 rfl rfl)
theorem dL_law_681 : decode cL_law 681 = .ok (.iconst 0, 1) := dk_3 (dk_at dksL_law_22 12 rfl rfl)
theorem dL_law_682 : decode cL_law 682 = .ok (.ireturn, 1) := dk_172 (dk_at dksL_law_22 13 rfl rfl)
theorem dL_law_683 : decode cL_law 683 = .ok (.goto 2445, 3) := dk_167 9 141 (dk_at dksL_law_22 14 rfl rfl)
theorem dL_law_686 : decode cL_law 686 = .ok (.aload_n 1, 1) := dk_43 (dk_at dksL_law_22 17 rfl rfl)
theorem dL_law_687 : decode cL_law 687 = .ok (.aload_n 0, 1) := dk_42 (dk_at dksL_law_22 18 rfl rfl)
theorem dL_law_688 : decode cL_law 688 = .ok (.iload 4, 2) := dk_21 4 (dk_at dksL_law_22 19 rfl rfl)
theorem dL_law_690 : decode cL_law 690 = .ok (.iconst 1, 1) := dk_4 (dk_at dksL_law_22 21 rfl rfl)
theorem dL_law_691 : decode cL_law 691 = .ok (.iadd, 1) := dk_96 (dk_at dksL_law_22 22 rfl rfl)
theorem dL_law_692 : decode cL_law 692 = .ok (.iaload, 1) := dk_46 (dk_at dksL_law_22 23 rfl rfl)
theorem dL_law_693 : decode cL_law 693 = .ok (.aload_n 0, 1) := dk_42 (dk_at dksL_law_23 0 rfl rfl)
theorem dL_law_694 : decode cL_law 694 = .ok (.iload 4, 2) := dk_21 4 (dk_at dksL_law_23 1 rfl rfl)
theorem dL_law_696 : decode cL_law 696 = .ok (.iconst 2, 1) := dk_5 (dk_at dksL_law_23 3 rfl rfl)
theorem dL_law_697 : decode cL_law 697 = .ok (.iadd, 1) := dk_96 (dk_at dksL_law_23 4 rfl rfl)
theorem dL_law_698 : decode cL_law 698 = .ok (.iaload, 1) := dk_46 (dk_at dksL_law_23 5 rfl rfl)
theorem dL_law_699 : decode cL_law 699 = .ok (.aload_n 0, 1) := dk_42 (dk_at dksL_law_23 6 rfl rfl)
theorem dL_law_700 : decode cL_law 700 = .ok (.iload 4, 2) := dk_21 4 (dk_at dksL_law_23 7 rfl rfl)
theorem dL_law_702 : decode cL_law 702 = .ok (.iconst 3, 1) := dk_6 (dk_at dksL_law_23 9 rfl rfl)
theorem dL_law_703 : decode cL_law 703 = .ok (.iadd, 1) := dk_96 (dk_at dksL_law_23 10 rfl rfl)
theorem dL_law_704 : decode cL_law 704 = .ok (.iaload, 1) := dk_46 (dk_at dksL_law_23 11 rfl rfl)
theorem dL_law_705 : decode cL_law 705 = .ok (.aload_n 0, 1) := dk_42 (dk_at dksL_law_23 12 rfl rfl)
theorem dL_law_706 : decode cL_law 706 = .ok (.iload 4, 2) := dk_21 4 (dk_at dksL_law_23 13 rfl rfl)
theorem dL_law_708 : decode cL_law 708 = .ok (.iconst 4, 1) := dk_7 (dk_at dksL_law_23 15 rfl rfl)
theorem dL_law_709 : decode cL_law 709 = .ok (.iadd, 1) := dk_96 (dk_at dksL_law_23 16 rfl rfl)
theorem dL_law_710 : decode cL_law 710 = .ok (.iaload, 1) := dk_46 (dk_at dksL_law_23 17 rfl rfl)
theorem dL_law_711 : decode cL_law 711 = .ok (.aload_n 3, 1) := dk_45 (dk_at dksL_law_23 18 rfl rfl)
theorem dL_law_712 : decode cL_law 712 = .ok (.invokestatic 188, 3) := dk_184 0 188 (dk_at dksL_law_23 19 rfl rfl)
theorem dL_law_715 : decode cL_law 715 = .ok (.istore 5, 2) := dk_54 5 (dk_at dksL_law_23 22 rfl rfl)
theorem dL_law_717 : decode cL_law 717 = .ok (.aload_n 2, 1) := dk_44 (dk_at dksL_law_24 0 rfl rfl)
theorem dL_law_718 : decode cL_law 718 = .ok (.aload_n 0, 1) := dk_42 (dk_at dksL_law_24 1 rfl rfl)
theorem dL_law_719 : decode cL_law 719 = .ok (.iload 4, 2) := dk_21 4 (dk_at dksL_law_24 2 rfl rfl)
theorem dL_law_721 : decode cL_law 721 = .ok (.iconst 1, 1) := dk_4 (dk_at dksL_law_24 4 rfl rfl)
theorem dL_law_722 : decode cL_law 722 = .ok (.iadd, 1) := dk_96 (dk_at dksL_law_24 5 rfl rfl)
theorem dL_law_723 : decode cL_law 723 = .ok (.iaload, 1) := dk_46 (dk_at dksL_law_24 6 rfl rfl)
theorem dL_law_724 : decode cL_law 724 = .ok (.aload_n 0, 1) := dk_42 (dk_at dksL_law_24 7 rfl rfl)
theorem dL_law_725 : decode cL_law 725 = .ok (.iload 4, 2) := dk_21 4 (dk_at dksL_law_24 8 rfl rfl)
theorem dL_law_727 : decode cL_law 727 = .ok (.iconst 2, 1) := dk_5 (dk_at dksL_law_24 10 rfl rfl)
theorem dL_law_728 : decode cL_law 728 = .ok (.iadd, 1) := dk_96 (dk_at dksL_law_24 11 rfl rfl)
theorem dL_law_729 : decode cL_law 729 = .ok (.iaload, 1) := dk_46 (dk_at dksL_law_24 12 rfl rfl)
theorem dL_law_730 : decode cL_law 730 = .ok (.aload_n 0, 1) := dk_42 (dk_at dksL_law_24 13 rfl rfl)
theorem dL_law_731 : decode cL_law 731 = .ok (.iload 4, 2) := dk_21 4 (dk_at dksL_law_24 14 rfl rfl)
theorem dL_law_733 : decode cL_law 733 = .ok (.iconst 3, 1) := dk_6 (dk_at dksL_law_24 16 rfl rfl)
theorem dL_law_734 : decode cL_law 734 = .ok (.iadd, 1) := dk_96 (dk_at dksL_law_24 17 rfl rfl)
theorem dL_law_735 : decode cL_law 735 = .ok (.iaload, 1) := dk_46 (dk_at dksL_law_24 18 rfl rfl)
theorem dL_law_736 : decode cL_law 736 = .ok (.aload_n 0, 1) := dk_42 (dk_at dksL_law_24 19 rfl rfl)
theorem dL_law_737 : decode cL_law 737 = .ok (.iload 4, 2) := dk_21 4 (dk_at dksL_law_24 20 rfl rfl)
theorem dL_law_739 : decode cL_law 739 = .ok (.iconst 4, 1) := dk_7 (dk_at dksL_law_24 22 rfl rfl)
theorem dL_law_740 : decode cL_law 740 = .ok (.iadd, 1) := dk_96 (dk_at dksL_law_24 23 rfl rfl)
theorem dL_law_741 : decode cL_law 741 = .ok (.iaload, 1) := dk_46 (dk_at dksL_law_25 0 rfl rfl)
theorem dL_law_742 : decode cL_law 742 = .ok (.invokevirtual 190, 3) := dk_182 0 190 (dk_at dksL_law_25 1 rfl rfl)
theorem dL_law_745 : decode cL_law 745 = .ok (.lstore 6, 2) := dk_55 6 (dk_at dksL_law_25 4 rfl rfl)
theorem dL_law_747 : decode cL_law 747 = .ok (.aload_n 2, 1) := dk_44 (dk_at dksL_law_25 6 rfl rfl)
theorem dL_law_748 : decode cL_law 748 = .ok (.invokevirtual 167, 3) := dk_182 0 167 (dk_at dksL_law_25 7 rfl rfl)
theorem dL_law_751 : decode cL_law 751 = .ok (.iload 5, 2) := dk_21 5 (dk_at dksL_law_25 10 rfl rfl)
theorem dL_law_753 : decode cL_law 753 = .ok (.if_icmp .eq 5, 3) := dk_159 0 5 (dk_at dksL_law_25 12 rfl rfl)
theorem dL_law_756 : decode cL_law 756 = .ok (.iconst 0, 1) := dk_3 (dk_at dksL_law_25 15 rfl rfl)
theorem dL_law_757 : decode cL_law 757 = .ok (.ireturn, 1) := dk_172 (dk_at dksL_law_25 16 rfl rfl)
theorem dL_law_758 : decode cL_law 758 = .ok (.iload 5, 2) := dk_21 5 (dk_at dksL_law_25 17 rfl rfl)
theorem dL_law_760 : decode cL_law 760 = .ok (.ifCond .ne 14, 3) := dk_154 0 14 (dk_at dksL_law_25 19 rfl rfl)
theorem dL_law_763 : decode cL_law 763 = .ok (.aload_n 3, 1) := dk_45 (dk_at dksL_law_25 22 rfl rfl)
theorem dL_law_764 : decode cL_law 764 = .ok (.iconst 0, 1) := dk_3 (dk_at dksL_law_25 23 rfl rfl)
theorem dL_law_765 : decode cL_law 765 = .ok (.laload, 1) := dk_47 (dk_at dksL_law_26 0 rfl rfl)
theorem dL_law_766 : decode cL_law 766 = .ok (.lload 6, 2) := dk_22 6 (dk_at dksL_law_26 1 rfl rfl)
theorem dL_law_768 : decode cL_law 768 = .ok (.lcmp, 1) := dk_148 (dk_at dksL_law_26 3 rfl rfl)
theorem dL_law_769 : decode cL_law 769 = .ok (.ifCond .eq 5, 3) := dk_153 0 5 (dk_at dksL_law_26 4 rfl rfl)
theorem dL_law_772 : decode cL_law 772 = .ok (.iconst 0, 1) := dk_3 (dk_at dksL_law_26 7 rfl rfl)
theorem dL_law_773 : decode cL_law 773 = .ok (.ireturn, 1) := dk_172 (dk_at dksL_law_26 8 rfl rfl)
theorem dL_law_774 : decode cL_law 774 = .ok (.goto 2354, 3) := dk_167 9 50 (dk_at dksL_law_26 9 rfl rfl)
theorem dL_law_777 : decode cL_law 777 = .ok (.aload_n 1, 1) := dk_43 (dk_at dksL_law_26 12 rfl rfl)
theorem dL_law_778 : decode cL_law 778 = .ok (.aload_n 0, 1) := dk_42 (dk_at dksL_law_26 13 rfl rfl)
theorem dL_law_779 : decode cL_law 779 = .ok (.iload 4, 2) := dk_21 4 (dk_at dksL_law_26 14 rfl rfl)
theorem dL_law_781 : decode cL_law 781 = .ok (.iconst 1, 1) := dk_4 (dk_at dksL_law_26 16 rfl rfl)
theorem dL_law_782 : decode cL_law 782 = .ok (.iadd, 1) := dk_96 (dk_at dksL_law_26 17 rfl rfl)
theorem dL_law_783 : decode cL_law 783 = .ok (.iaload, 1) := dk_46 (dk_at dksL_law_26 18 rfl rfl)
theorem dL_law_784 : decode cL_law 784 = .ok (.aload_n 0, 1) := dk_42 (dk_at dksL_law_26 19 rfl rfl)
theorem dL_law_785 : decode cL_law 785 = .ok (.iload 4, 2) := dk_21 4 (dk_at dksL_law_26 20 rfl rfl)
theorem dL_law_787 : decode cL_law 787 = .ok (.iconst 2, 1) := dk_5 (dk_at dksL_law_26 22 rfl rfl)
theorem dL_law_788 : decode cL_law 788 = .ok (.iadd, 1) := dk_96 (dk_at dksL_law_26 23 rfl rfl)
theorem dL_law_789 : decode cL_law 789 = .ok (.iaload, 1) := dk_46 (dk_at dksL_law_27 0 rfl rfl)
theorem dL_law_790 : decode cL_law 790 = .ok (.aload_n 0, 1) := dk_42 (dk_at dksL_law_27 1 rfl rfl)
theorem dL_law_791 : decode cL_law 791 = .ok (.iload 4, 2) := dk_21 4 (dk_at dksL_law_27 2 rfl rfl)
theorem dL_law_793 : decode cL_law 793 = .ok (.iconst 3, 1) := dk_6 (dk_at dksL_law_27 4 rfl rfl)
theorem dL_law_794 : decode cL_law 794 = .ok (.iadd, 1) := dk_96 (dk_at dksL_law_27 5 rfl rfl)
theorem dL_law_795 : decode cL_law 795 = .ok (.iaload, 1) := dk_46 (dk_at dksL_law_27 6 rfl rfl)
theorem dL_law_796 : decode cL_law 796 = .ok (.aload_n 0, 1) := dk_42 (dk_at dksL_law_27 7 rfl rfl)
theorem dL_law_797 : decode cL_law 797 = .ok (.iload 4, 2) := dk_21 4 (dk_at dksL_law_27 8 rfl rfl)
theorem dL_law_799 : decode cL_law 799 = .ok (.iconst 4, 1) := dk_7 (dk_at dksL_law_27 10 rfl rfl)
theorem dL_law_800 : decode cL_law 800 = .ok (.iadd, 1) := dk_96 (dk_at dksL_law_27 11 rfl rfl)
theorem dL_law_801 : decode cL_law 801 = .ok (.iaload, 1) := dk_46 (dk_at dksL_law_27 12 rfl rfl)
theorem dL_law_802 : decode cL_law 802 = .ok (.aload_n 3, 1) := dk_45 (dk_at dksL_law_27 13 rfl rfl)
theorem dL_law_803 : decode cL_law 803 = .ok (.invokestatic 191, 3) := dk_184 0 191 (dk_at dksL_law_27 14 rfl rfl)
theorem dL_law_806 : decode cL_law 806 = .ok (.istore 5, 2) := dk_54 5 (dk_at dksL_law_27 17 rfl rfl)
theorem dL_law_808 : decode cL_law 808 = .ok (.aload_n 2, 1) := dk_44 (dk_at dksL_law_27 19 rfl rfl)
theorem dL_law_809 : decode cL_law 809 = .ok (.aload_n 0, 1) := dk_42 (dk_at dksL_law_27 20 rfl rfl)
theorem dL_law_810 : decode cL_law 810 = .ok (.iload 4, 2) := dk_21 4 (dk_at dksL_law_27 21 rfl rfl)
theorem dL_law_812 : decode cL_law 812 = .ok (.iconst 1, 1) := dk_4 (dk_at dksL_law_27 23 rfl rfl)
theorem dL_law_813 : decode cL_law 813 = .ok (.iadd, 1) := dk_96 (dk_at dksL_law_28 0 rfl rfl)
theorem dL_law_814 : decode cL_law 814 = .ok (.iaload, 1) := dk_46 (dk_at dksL_law_28 1 rfl rfl)
theorem dL_law_815 : decode cL_law 815 = .ok (.aload_n 0, 1) := dk_42 (dk_at dksL_law_28 2 rfl rfl)
theorem dL_law_816 : decode cL_law 816 = .ok (.iload 4, 2) := dk_21 4 (dk_at dksL_law_28 3 rfl rfl)
theorem dL_law_818 : decode cL_law 818 = .ok (.iconst 2, 1) := dk_5 (dk_at dksL_law_28 5 rfl rfl)
theorem dL_law_819 : decode cL_law 819 = .ok (.iadd, 1) := dk_96 (dk_at dksL_law_28 6 rfl rfl)
theorem dL_law_820 : decode cL_law 820 = .ok (.iaload, 1) := dk_46 (dk_at dksL_law_28 7 rfl rfl)
theorem dL_law_821 : decode cL_law 821 = .ok (.aload_n 0, 1) := dk_42 (dk_at dksL_law_28 8 rfl rfl)
theorem dL_law_822 : decode cL_law 822 = .ok (.iload 4, 2) := dk_21 4 (dk_at dksL_law_28 9 rfl rfl)
theorem dL_law_824 : decode cL_law 824 = .ok (.iconst 3, 1) := dk_6 (dk_at dksL_law_28 11 rfl rfl)
theorem dL_law_825 : decode cL_law 825 = .ok (.iadd, 1) := dk_96 (dk_at dksL_law_28 12 rfl rfl)
theorem dL_law_826 : decode cL_law 826 = .ok (.iaload, 1) := dk_46 (dk_at dksL_law_28 13 rfl rfl)
theorem dL_law_827 : decode cL_law 827 = .ok (.aload_n 0, 1) := dk_42 (dk_at dksL_law_28 14 rfl rfl)
theorem dL_law_828 : decode cL_law 828 = .ok (.iload 4, 2) := dk_21 4 (dk_at dksL_law_28 15 rfl rfl)
theorem dL_law_830 : decode cL_law 830 = .ok (.iconst 4, 1) := dk_7 (dk_at dksL_law_28 17 rfl rfl)
theorem dL_law_831 : decode cL_law 831 = .ok (.iadd, 1) := dk_96 (dk_at dksL_law_28 18 rfl rfl)
theorem dL_law_832 : decode cL_law 832 = .ok (.iaload, 1) := dk_46 (dk_at dksL_law_28 19 rfl rfl)
theorem dL_law_833 : decode cL_law 833 = .ok (.invokevirtual 193, 3) := dk_182 0 193 (dk_at dksL_law_28 20 rfl rfl)
theorem dL_law_836 : decode cL_law 836 = .ok (.istore 6, 2) := dk_54 6 (dk_at dksL_law_29 0 rfl rfl)
theorem dL_law_838 : decode cL_law 838 = .ok (.aload_n 2, 1) := dk_44 (dk_at dksL_law_29 2 rfl rfl)
theorem dL_law_839 : decode cL_law 839 = .ok (.invokevirtual 167, 3) := dk_182 0 167 (dk_at dksL_law_29 3 rfl rfl)
theorem dL_law_842 : decode cL_law 842 = .ok (.iload 5, 2) := dk_21 5 (dk_at dksL_law_29 6 rfl rfl)
theorem dL_law_844 : decode cL_law 844 = .ok (.if_icmp .eq 5, 3) := dk_159 0 5 (dk_at dksL_law_29 8 rfl rfl)
theorem dL_law_847 : decode cL_law 847 = .ok (.iconst 0, 1) := dk_3 (dk_at dksL_law_29 11 rfl rfl)
theorem dL_law_848 : decode cL_law 848 = .ok (.ireturn, 1) := dk_172 (dk_at dksL_law_29 12 rfl rfl)
theorem dL_law_849 : decode cL_law 849 = .ok (.iload 5, 2) := dk_21 5 (dk_at dksL_law_29 13 rfl rfl)
theorem dL_law_851 : decode cL_law 851 = .ok (.ifCond .ne 15, 3) := dk_154 0 15 (dk_at dksL_law_29 15 rfl rfl)
theorem dL_law_854 : decode cL_law 854 = .ok (.aload_n 3, 1) := dk_45 (dk_at dksL_law_29 18 rfl rfl)
theorem dL_law_855 : decode cL_law 855 = .ok (.iconst 0, 1) := dk_3 (dk_at dksL_law_29 19 rfl rfl)
theorem dL_law_856 : decode cL_law 856 = .ok (.laload, 1) := dk_47 (dk_at dksL_law_29 20 rfl rfl)
theorem dL_law_857 : decode cL_law 857 = .ok (.iload 6, 2) := dk_21 6 (dk_at dksL_law_29 21 rfl rfl)
theorem dL_law_859 : decode cL_law 859 = .ok (.i2l, 1) := dk_133 (dk_at dksL_law_29 23 rfl rfl)
theorem dL_law_860 : decode cL_law 860 = .ok (.lcmp, 1) := dk_148 (dk_at dksL_law_30 0 rfl rfl)
theorem dL_law_861 : decode cL_law 861 = .ok (.ifCond .eq 5, 3) := dk_153 0 5 (dk_at dksL_law_30 1 rfl rfl)
theorem dL_law_864 : decode cL_law 864 = .ok (.iconst 0, 1) := dk_3 (dk_at dksL_law_30 4 rfl rfl)
theorem dL_law_865 : decode cL_law 865 = .ok (.ireturn, 1) := dk_172 (dk_at dksL_law_30 5 rfl rfl)
theorem dL_law_866 : decode cL_law 866 = .ok (.goto 2262, 3) := dk_167 8 214 (dk_at dksL_law_30 6 rfl rfl)
theorem dL_law_869 : decode cL_law 869 = .ok (.aload_n 1, 1) := dk_43 (dk_at dksL_law_30 9 rfl rfl)
theorem dL_law_870 : decode cL_law 870 = .ok (.aload_n 0, 1) := dk_42 (dk_at dksL_law_30 10 rfl rfl)
theorem dL_law_871 : decode cL_law 871 = .ok (.iload 4, 2) := dk_21 4 (dk_at dksL_law_30 11 rfl rfl)
theorem dL_law_873 : decode cL_law 873 = .ok (.iconst 1, 1) := dk_4 (dk_at dksL_law_30 13 rfl rfl)
theorem dL_law_874 : decode cL_law 874 = .ok (.iadd, 1) := dk_96 (dk_at dksL_law_30 14 rfl rfl)
theorem dL_law_875 : decode cL_law 875 = .ok (.iaload, 1) := dk_46 (dk_at dksL_law_30 15 rfl rfl)
theorem dL_law_876 : decode cL_law 876 = .ok (.aload_n 3, 1) := dk_45 (dk_at dksL_law_30 16 rfl rfl)
theorem dL_law_877 : decode cL_law 877 = .ok (.invokestatic 194, 3) := dk_184 0 194 (dk_at dksL_law_30 17 rfl rfl)
theorem dL_law_880 : decode cL_law 880 = .ok (.istore 5, 2) := dk_54 5 (dk_at dksL_law_30 20 rfl rfl)
theorem dL_law_882 : decode cL_law 882 = .ok (.aload_n 2, 1) := dk_44 (dk_at dksL_law_30 22 rfl rfl)
theorem dL_law_883 : decode cL_law 883 = .ok (.aload_n 0, 1) := dk_42 (dk_at dksL_law_30 23 rfl rfl)
theorem dL_law_884 : decode cL_law 884 = .ok (.iload 4, 2) := dk_21 4 (dk_at dksL_law_31 0 rfl rfl)
theorem dL_law_886 : decode cL_law 886 = .ok (.iconst 1, 1) := dk_4 (dk_at dksL_law_31 2 rfl rfl)
theorem dL_law_887 : decode cL_law 887 = .ok (.iadd, 1) := dk_96 (dk_at dksL_law_31 3 rfl rfl)
theorem dL_law_888 : decode cL_law 888 = .ok (.iaload, 1) := dk_46 (dk_at dksL_law_31 4 rfl rfl)
theorem dL_law_889 : decode cL_law 889 = .ok (.invokevirtual 196, 3) := dk_182 0 196 (dk_at dksL_law_31 5 rfl rfl)
theorem dL_law_892 : decode cL_law 892 = .ok (.istore 6, 2) := dk_54 6 (dk_at dksL_law_31 8 rfl rfl)
theorem dL_law_894 : decode cL_law 894 = .ok (.aload_n 2, 1) := dk_44 (dk_at dksL_law_31 10 rfl rfl)
theorem dL_law_895 : decode cL_law 895 = .ok (.invokevirtual 167, 3) := dk_182 0 167 (dk_at dksL_law_31 11 rfl rfl)
theorem dL_law_898 : decode cL_law 898 = .ok (.iload 5, 2) := dk_21 5 (dk_at dksL_law_31 14 rfl rfl)
theorem dL_law_900 : decode cL_law 900 = .ok (.if_icmp .eq 5, 3) := dk_159 0 5 (dk_at dksL_law_31 16 rfl rfl)
theorem dL_law_903 : decode cL_law 903 = .ok (.iconst 0, 1) := dk_3 (dk_at dksL_law_31 19 rfl rfl)
theorem dL_law_904 : decode cL_law 904 = .ok (.ireturn, 1) := dk_172 (dk_at dksL_law_31 20 rfl rfl)
theorem dL_law_905 : decode cL_law 905 = .ok (.iload 5, 2) := dk_21 5 (dk_at dksL_law_31 21 rfl rfl)
theorem dL_law_907 : decode cL_law 907 = .ok (.ifCond .ne 15, 3) := dk_154 0 15 (dk_at dksL_law_32 0 rfl rfl)
theorem dL_law_910 : decode cL_law 910 = .ok (.aload_n 3, 1) := dk_45 (dk_at dksL_law_32 3 rfl rfl)
theorem dL_law_911 : decode cL_law 911 = .ok (.iconst 0, 1) := dk_3 (dk_at dksL_law_32 4 rfl rfl)
theorem dL_law_912 : decode cL_law 912 = .ok (.laload, 1) := dk_47 (dk_at dksL_law_32 5 rfl rfl)
theorem dL_law_913 : decode cL_law 913 = .ok (.iload 6, 2) := dk_21 6 (dk_at dksL_law_32 6 rfl rfl)
theorem dL_law_915 : decode cL_law 915 = .ok (.i2l, 1) := dk_133 (dk_at dksL_law_32 8 rfl rfl)
theorem dL_law_916 : decode cL_law 916 = .ok (.lcmp, 1) := dk_148 (dk_at dksL_law_32 9 rfl rfl)
theorem dL_law_917 : decode cL_law 917 = .ok (.ifCond .eq 5, 3) := dk_153 0 5 (dk_at dksL_law_32 10 rfl rfl)
theorem dL_law_920 : decode cL_law 920 = .ok (.iconst 0, 1) := dk_3 (dk_at dksL_law_32 13 rfl rfl)
theorem dL_law_921 : decode cL_law 921 = .ok (.ireturn, 1) := dk_172 (dk_at dksL_law_32 14 rfl rfl)
theorem dL_law_922 : decode cL_law 922 = .ok (.goto 2206, 3) := dk_167 8 158 (dk_at dksL_law_32 15 rfl rfl)
theorem dL_law_925 : decode cL_law 925 = .ok (.aload_n 1, 1) := dk_43 (dk_at dksL_law_32 18 rfl rfl)
theorem dL_law_926 : decode cL_law 926 = .ok (.aload_n 0, 1) := dk_42 (dk_at dksL_law_32 19 rfl rfl)
theorem dL_law_927 : decode cL_law 927 = .ok (.iload 4, 2) := dk_21 4 (dk_at dksL_law_32 20 rfl rfl)
theorem dL_law_929 : decode cL_law 929 = .ok (.iconst 1, 1) := dk_4 (dk_at dksL_law_32 22 rfl rfl)
theorem dL_law_930 : decode cL_law 930 = .ok (.iadd, 1) := dk_96 (dk_at dksL_law_32 23 rfl rfl)
theorem dL_law_931 : decode cL_law 931 = .ok (.iaload, 1) := dk_46 (dk_at dksL_law_33 0 rfl rfl)
theorem dL_law_932 : decode cL_law 932 = .ok (.aload_n 0, 1) := dk_42 (dk_at dksL_law_33 1 rfl rfl)
theorem dL_law_933 : decode cL_law 933 = .ok (.iload 4, 2) := dk_21 4 (dk_at dksL_law_33 2 rfl rfl)
theorem dL_law_935 : decode cL_law 935 = .ok (.iconst 2, 1) := dk_5 (dk_at dksL_law_33 4 rfl rfl)
theorem dL_law_936 : decode cL_law 936 = .ok (.iadd, 1) := dk_96 (dk_at dksL_law_33 5 rfl rfl)
theorem dL_law_937 : decode cL_law 937 = .ok (.iaload, 1) := dk_46 (dk_at dksL_law_33 6 rfl rfl)
theorem dL_law_938 : decode cL_law 938 = .ok (.aload_n 0, 1) := dk_42 (dk_at dksL_law_33 7 rfl rfl)
theorem dL_law_939 : decode cL_law 939 = .ok (.iload 4, 2) := dk_21 4 (dk_at dksL_law_33 8 rfl rfl)
theorem dL_law_941 : decode cL_law 941 = .ok (.iconst 3, 1) := dk_6 (dk_at dksL_law_33 10 rfl rfl)
theorem dL_law_942 : decode cL_law 942 = .ok (.iadd, 1) := dk_96 (dk_at dksL_law_33 11 rfl rfl)
theorem dL_law_943 : decode cL_law 943 = .ok (.iaload, 1) := dk_46 (dk_at dksL_law_33 12 rfl rfl)
theorem dL_law_944 : decode cL_law 944 = .ok (.aload_n 3, 1) := dk_45 (dk_at dksL_law_33 13 rfl rfl)
theorem dL_law_945 : decode cL_law 945 = .ok (.invokestatic 197, 3) := dk_184 0 197 (dk_at dksL_law_33 14 rfl rfl)
theorem dL_law_948 : decode cL_law 948 = .ok (.istore 5, 2) := dk_54 5 (dk_at dksL_law_33 17 rfl rfl)
theorem dL_law_950 : decode cL_law 950 = .ok (.aload_n 2, 1) := dk_44 (dk_at dksL_law_33 19 rfl rfl)
theorem dL_law_951 : decode cL_law 951 = .ok (.aload_n 0, 1) := dk_42 (dk_at dksL_law_33 20 rfl rfl)
theorem dL_law_952 : decode cL_law 952 = .ok (.iload 4, 2) := dk_21 4 (dk_at dksL_law_33 21 rfl rfl)
theorem dL_law_954 : decode cL_law 954 = .ok (.iconst 1, 1) := dk_4 (dk_at dksL_law_33 23 rfl rfl)
theorem dL_law_955 : decode cL_law 955 = .ok (.iadd, 1) := dk_96 (dk_at dksL_law_34 0 rfl rfl)
theorem dL_law_956 : decode cL_law 956 = .ok (.iaload, 1) := dk_46 (dk_at dksL_law_34 1 rfl rfl)
theorem dL_law_957 : decode cL_law 957 = .ok (.aload_n 0, 1) := dk_42 (dk_at dksL_law_34 2 rfl rfl)
theorem dL_law_958 : decode cL_law 958 = .ok (.iload 4, 2) := dk_21 4 (dk_at dksL_law_34 3 rfl rfl)
theorem dL_law_960 : decode cL_law 960 = .ok (.iconst 2, 1) := dk_5 (dk_at dksL_law_34 5 rfl rfl)
theorem dL_law_961 : decode cL_law 961 = .ok (.iadd, 1) := dk_96 (dk_at dksL_law_34 6 rfl rfl)
theorem dL_law_962 : decode cL_law 962 = .ok (.iaload, 1) := dk_46 (dk_at dksL_law_34 7 rfl rfl)
theorem dL_law_963 : decode cL_law 963 = .ok (.aload_n 0, 1) := dk_42 (dk_at dksL_law_34 8 rfl rfl)
theorem dL_law_964 : decode cL_law 964 = .ok (.iload 4, 2) := dk_21 4 (dk_at dksL_law_34 9 rfl rfl)
theorem dL_law_966 : decode cL_law 966 = .ok (.iconst 3, 1) := dk_6 (dk_at dksL_law_34 11 rfl rfl)
theorem dL_law_967 : decode cL_law 967 = .ok (.iadd, 1) := dk_96 (dk_at dksL_law_34 12 rfl rfl)
theorem dL_law_968 : decode cL_law 968 = .ok (.iaload, 1) := dk_46 (dk_at dksL_law_34 13 rfl rfl)
theorem dL_law_969 : decode cL_law 969 = .ok (.invokevirtual 199, 3) := dk_182 0 199 (dk_at dksL_law_34 14 rfl rfl)
theorem dL_law_972 : decode cL_law 972 = .ok (.lstore 6, 2) := dk_55 6 (dk_at dksL_law_34 17 rfl rfl)
theorem dL_law_974 : decode cL_law 974 = .ok (.aload_n 2, 1) := dk_44 (dk_at dksL_law_34 19 rfl rfl)
theorem dL_law_975 : decode cL_law 975 = .ok (.invokevirtual 167, 3) := dk_182 0 167 (dk_at dksL_law_34 20 rfl rfl)
theorem dL_law_978 : decode cL_law 978 = .ok (.iload 5, 2) := dk_21 5 (dk_at dksL_law_35 0 rfl rfl)
theorem dL_law_980 : decode cL_law 980 = .ok (.if_icmp .eq 5, 3) := dk_159 0 5 (dk_at dksL_law_35 2 rfl rfl)
theorem dL_law_983 : decode cL_law 983 = .ok (.iconst 0, 1) := dk_3 (dk_at dksL_law_35 5 rfl rfl)
theorem dL_law_984 : decode cL_law 984 = .ok (.ireturn, 1) := dk_172 (dk_at dksL_law_35 6 rfl rfl)
theorem dL_law_985 : decode cL_law 985 = .ok (.iload 5, 2) := dk_21 5 (dk_at dksL_law_35 7 rfl rfl)
theorem dL_law_987 : decode cL_law 987 = .ok (.ifCond .ne 14, 3) := dk_154 0 14 (dk_at dksL_law_35 9 rfl rfl)
theorem dL_law_990 : decode cL_law 990 = .ok (.aload_n 3, 1) := dk_45 (dk_at dksL_law_35 12 rfl rfl)
theorem dL_law_991 : decode cL_law 991 = .ok (.iconst 0, 1) := dk_3 (dk_at dksL_law_35 13 rfl rfl)
theorem dL_law_992 : decode cL_law 992 = .ok (.laload, 1) := dk_47 (dk_at dksL_law_35 14 rfl rfl)
theorem dL_law_993 : decode cL_law 993 = .ok (.lload 6, 2) := dk_22 6 (dk_at dksL_law_35 15 rfl rfl)
theorem dL_law_995 : decode cL_law 995 = .ok (.lcmp, 1) := dk_148 (dk_at dksL_law_35 17 rfl rfl)
theorem dL_law_996 : decode cL_law 996 = .ok (.ifCond .eq 5, 3) := dk_153 0 5 (dk_at dksL_law_35 18 rfl rfl)
theorem dL_law_999 : decode cL_law 999 = .ok (.iconst 0, 1) := dk_3 (dk_at dksL_law_35 21 rfl rfl)
theorem dL_law_1000 : decode cL_law 1000 = .ok (.ireturn, 1) := dk_172 (dk_at dksL_law_35 22 rfl rfl)
theorem dL_law_1001 : decode cL_law 1001 = .ok (.goto 2127, 3) := dk_167 8 79 (dk_at dksL_law_36 0 rfl rfl)
theorem dL_law_1004 : decode cL_law 1004 = .ok (.aload_n 1, 1) := dk_43 (dk_at dksL_law_36 3 rfl rfl)
theorem dL_law_1005 : decode cL_law 1005 = .ok (.aload_n 0, 1) := dk_42 (dk_at dksL_law_36 4 rfl rfl)
theorem dL_law_1006 : decode cL_law 1006 = .ok (.iload 4, 2) := dk_21 4 (dk_at dksL_law_36 5 rfl rfl)
theorem dL_law_1008 : decode cL_law 1008 = .ok (.iconst 1, 1) := dk_4 (dk_at dksL_law_36 7 rfl rfl)
theorem dL_law_1009 : decode cL_law 1009 = .ok (.iadd, 1) := dk_96 (dk_at dksL_law_36 8 rfl rfl)
theorem dL_law_1010 : decode cL_law 1010 = .ok (.iaload, 1) := dk_46 (dk_at dksL_law_36 9 rfl rfl)
theorem dL_law_1011 : decode cL_law 1011 = .ok (.aload_n 0, 1) := dk_42 (dk_at dksL_law_36 10 rfl rfl)
theorem dL_law_1012 : decode cL_law 1012 = .ok (.iload 4, 2) := dk_21 4 (dk_at dksL_law_36 11 rfl rfl)
theorem dL_law_1014 : decode cL_law 1014 = .ok (.iconst 2, 1) := dk_5 (dk_at dksL_law_36 13 rfl rfl)
theorem dL_law_1015 : decode cL_law 1015 = .ok (.iadd, 1) := dk_96 (dk_at dksL_law_36 14 rfl rfl)
theorem dL_law_1016 : decode cL_law 1016 = .ok (.iaload, 1) := dk_46 (dk_at dksL_law_36 15 rfl rfl)
theorem dL_law_1017 : decode cL_law 1017 = .ok (.aload_n 0, 1) := dk_42 (dk_at dksL_law_36 16 rfl rfl)
theorem dL_law_1018 : decode cL_law 1018 = .ok (.iload 4, 2) := dk_21 4 (dk_at dksL_law_36 17 rfl rfl)
theorem dL_law_1020 : decode cL_law 1020 = .ok (.iconst 3, 1) := dk_6 (dk_at dksL_law_36 19 rfl rfl)
theorem dL_law_1021 : decode cL_law 1021 = .ok (.iadd, 1) := dk_96 (dk_at dksL_law_36 20 rfl rfl)
theorem dL_law_1022 : decode cL_law 1022 = .ok (.iaload, 1) := dk_46 (dk_at dksL_law_36 21 rfl rfl)
theorem dL_law_1023 : decode cL_law 1023 = .ok (.aload_n 3, 1) := dk_45 (dk_at dksL_law_36 22 rfl rfl)
theorem dL_law_1024 : decode cL_law 1024 = .ok (.invokestatic 200, 3) := dk_184 0 200 (dk_at dksL_law_37 0 rfl rfl)
theorem dL_law_1027 : decode cL_law 1027 = .ok (.istore 5, 2) := dk_54 5 (dk_at dksL_law_37 3 rfl rfl)
theorem dL_law_1029 : decode cL_law 1029 = .ok (.aload_n 2, 1) := dk_44 (dk_at dksL_law_37 5 rfl rfl)
theorem dL_law_1030 : decode cL_law 1030 = .ok (.aload_n 0, 1) := dk_42 (dk_at dksL_law_37 6 rfl rfl)
theorem dL_law_1031 : decode cL_law 1031 = .ok (.iload 4, 2) := dk_21 4 (dk_at dksL_law_37 7 rfl rfl)
theorem dL_law_1033 : decode cL_law 1033 = .ok (.iconst 1, 1) := dk_4 (dk_at dksL_law_37 9 rfl rfl)
theorem dL_law_1034 : decode cL_law 1034 = .ok (.iadd, 1) := dk_96 (dk_at dksL_law_37 10 rfl rfl)
theorem dL_law_1035 : decode cL_law 1035 = .ok (.iaload, 1) := dk_46 (dk_at dksL_law_37 11 rfl rfl)
theorem dL_law_1036 : decode cL_law 1036 = .ok (.aload_n 0, 1) := dk_42 (dk_at dksL_law_37 12 rfl rfl)
theorem dL_law_1037 : decode cL_law 1037 = .ok (.iload 4, 2) := dk_21 4 (dk_at dksL_law_37 13 rfl rfl)
theorem dL_law_1039 : decode cL_law 1039 = .ok (.iconst 2, 1) := dk_5 (dk_at dksL_law_37 15 rfl rfl)
theorem dL_law_1040 : decode cL_law 1040 = .ok (.iadd, 1) := dk_96 (dk_at dksL_law_37 16 rfl rfl)
theorem dL_law_1041 : decode cL_law 1041 = .ok (.iaload, 1) := dk_46 (dk_at dksL_law_37 17 rfl rfl)
theorem dL_law_1042 : decode cL_law 1042 = .ok (.aload_n 0, 1) := dk_42 (dk_at dksL_law_37 18 rfl rfl)
theorem dL_law_1043 : decode cL_law 1043 = .ok (.iload 4, 2) := dk_21 4 (dk_at dksL_law_37 19 rfl rfl)
theorem dL_law_1045 : decode cL_law 1045 = .ok (.iconst 3, 1) := dk_6 (dk_at dksL_law_37 21 rfl rfl)
theorem dL_law_1046 : decode cL_law 1046 = .ok (.iadd, 1) := dk_96 (dk_at dksL_law_37 22 rfl rfl)
theorem dL_law_1047 : decode cL_law 1047 = .ok (.iaload, 1) := dk_46 (dk_at dksL_law_37 23 rfl rfl)
theorem dL_law_1048 : decode cL_law 1048 = .ok (.invokevirtual 202, 3) := dk_182 0 202 (dk_at dksL_law_38 0 rfl rfl)
theorem dL_law_1051 : decode cL_law 1051 = .ok (.lstore 6, 2) := dk_55 6 (dk_at dksL_law_38 3 rfl rfl)
theorem dL_law_1053 : decode cL_law 1053 = .ok (.aload_n 2, 1) := dk_44 (dk_at dksL_law_38 5 rfl rfl)
theorem dL_law_1054 : decode cL_law 1054 = .ok (.invokevirtual 167, 3) := dk_182 0 167 (dk_at dksL_law_38 6 rfl rfl)
theorem dL_law_1057 : decode cL_law 1057 = .ok (.iload 5, 2) := dk_21 5 (dk_at dksL_law_38 9 rfl rfl)
theorem dL_law_1059 : decode cL_law 1059 = .ok (.if_icmp .eq 5, 3) := dk_159 0 5 (dk_at dksL_law_38 11 rfl rfl)
theorem dL_law_1062 : decode cL_law 1062 = .ok (.iconst 0, 1) := dk_3 (dk_at dksL_law_38 14 rfl rfl)
theorem dL_law_1063 : decode cL_law 1063 = .ok (.ireturn, 1) := dk_172 (dk_at dksL_law_38 15 rfl rfl)
theorem dL_law_1064 : decode cL_law 1064 = .ok (.iload 5, 2) := dk_21 5 (dk_at dksL_law_38 16 rfl rfl)
theorem dL_law_1066 : decode cL_law 1066 = .ok (.ifCond .ne 14, 3) := dk_154 0 14 (dk_at dksL_law_38 18 rfl rfl)
theorem dL_law_1069 : decode cL_law 1069 = .ok (.aload_n 3, 1) := dk_45 (dk_at dksL_law_38 21 rfl rfl)
theorem dL_law_1070 : decode cL_law 1070 = .ok (.iconst 0, 1) := dk_3 (dk_at dksL_law_38 22 rfl rfl)
theorem dL_law_1071 : decode cL_law 1071 = .ok (.laload, 1) := dk_47 (dk_at dksL_law_38 23 rfl rfl)
theorem dL_law_1072 : decode cL_law 1072 = .ok (.lload 6, 2) := dk_22 6 (dk_at dksL_law_39 0 rfl rfl)
theorem dL_law_1074 : decode cL_law 1074 = .ok (.lcmp, 1) := dk_148 (dk_at dksL_law_39 2 rfl rfl)
theorem dL_law_1075 : decode cL_law 1075 = .ok (.ifCond .eq 5, 3) := dk_153 0 5 (dk_at dksL_law_39 3 rfl rfl)
theorem dL_law_1078 : decode cL_law 1078 = .ok (.iconst 0, 1) := dk_3 (dk_at dksL_law_39 6 rfl rfl)
theorem dL_law_1079 : decode cL_law 1079 = .ok (.ireturn, 1) := dk_172 (dk_at dksL_law_39 7 rfl rfl)
theorem dL_law_1080 : decode cL_law 1080 = .ok (.goto 2048, 3) := dk_167 8 0 (dk_at dksL_law_39 8 rfl rfl)
theorem dL_law_1083 : decode cL_law 1083 = .ok (.aload_n 1, 1) := dk_43 (dk_at dksL_law_39 11 rfl rfl)
theorem dL_law_1084 : decode cL_law 1084 = .ok (.aload_n 0, 1) := dk_42 (dk_at dksL_law_39 12 rfl rfl)
theorem dL_law_1085 : decode cL_law 1085 = .ok (.iload 4, 2) := dk_21 4 (dk_at dksL_law_39 13 rfl rfl)
theorem dL_law_1087 : decode cL_law 1087 = .ok (.iconst 1, 1) := dk_4 (dk_at dksL_law_39 15 rfl rfl)
theorem dL_law_1088 : decode cL_law 1088 = .ok (.iadd, 1) := dk_96 (dk_at dksL_law_39 16 rfl rfl)
theorem dL_law_1089 : decode cL_law 1089 = .ok (.iaload, 1) := dk_46 (dk_at dksL_law_39 17 rfl rfl)
theorem dL_law_1090 : decode cL_law 1090 = .ok (.aload_n 0, 1) := dk_42 (dk_at dksL_law_39 18 rfl rfl)
theorem dL_law_1091 : decode cL_law 1091 = .ok (.iload 4, 2) := dk_21 4 (dk_at dksL_law_39 19 rfl rfl)
theorem dL_law_1093 : decode cL_law 1093 = .ok (.iconst 2, 1) := dk_5 (dk_at dksL_law_39 21 rfl rfl)
theorem dL_law_1094 : decode cL_law 1094 = .ok (.iadd, 1) := dk_96 (dk_at dksL_law_39 22 rfl rfl)
theorem dL_law_1095 : decode cL_law 1095 = .ok (.iaload, 1) := dk_46 (dk_at dksL_law_39 23 rfl rfl)
theorem dL_law_1096 : decode cL_law 1096 = .ok (.aload_n 0, 1) := dk_42 (dk_at dksL_law_40 0 rfl rfl)
theorem dL_law_1097 : decode cL_law 1097 = .ok (.iload 4, 2) := dk_21 4 (dk_at dksL_law_40 1 rfl rfl)
theorem dL_law_1099 : decode cL_law 1099 = .ok (.iconst 3, 1) := dk_6 (dk_at dksL_law_40 3 rfl rfl)
theorem dL_law_1100 : decode cL_law 1100 = .ok (.iadd, 1) := dk_96 (dk_at dksL_law_40 4 rfl rfl)
theorem dL_law_1101 : decode cL_law 1101 = .ok (.iaload, 1) := dk_46 (dk_at dksL_law_40 5 rfl rfl)
theorem dL_law_1102 : decode cL_law 1102 = .ok (.aload_n 0, 1) := dk_42 (dk_at dksL_law_40 6 rfl rfl)
theorem dL_law_1103 : decode cL_law 1103 = .ok (.iload 4, 2) := dk_21 4 (dk_at dksL_law_40 7 rfl rfl)
theorem dL_law_1105 : decode cL_law 1105 = .ok (.iconst 4, 1) := dk_7 (dk_at dksL_law_40 9 rfl rfl)
theorem dL_law_1106 : decode cL_law 1106 = .ok (.iadd, 1) := dk_96 (dk_at dksL_law_40 10 rfl rfl)
theorem dL_law_1107 : decode cL_law 1107 = .ok (.iaload, 1) := dk_46 (dk_at dksL_law_40 11 rfl rfl)
theorem dL_law_1108 : decode cL_law 1108 = .ok (.aload_n 3, 1) := dk_45 (dk_at dksL_law_40 12 rfl rfl)
theorem dL_law_1109 : decode cL_law 1109 = .ok (.invokestatic 203, 3) := dk_184 0 203 (dk_at dksL_law_40 13 rfl rfl)
theorem dL_law_1112 : decode cL_law 1112 = .ok (.istore 5, 2) := dk_54 5 (dk_at dksL_law_40 16 rfl rfl)
theorem dL_law_1114 : decode cL_law 1114 = .ok (.aload_n 2, 1) := dk_44 (dk_at dksL_law_40 18 rfl rfl)
theorem dL_law_1115 : decode cL_law 1115 = .ok (.aload_n 0, 1) := dk_42 (dk_at dksL_law_40 19 rfl rfl)
theorem dL_law_1116 : decode cL_law 1116 = .ok (.iload 4, 2) := dk_21 4 (dk_at dksL_law_40 20 rfl rfl)
theorem dL_law_1118 : decode cL_law 1118 = .ok (.iconst 1, 1) := dk_4 (dk_at dksL_law_40 22 rfl rfl)
theorem dL_law_1119 : decode cL_law 1119 = .ok (.iadd, 1) := dk_96 (dk_at dksL_law_40 23 rfl rfl)
theorem dL_law_1120 : decode cL_law 1120 = .ok (.iaload, 1) := dk_46 (dk_at dksL_law_41 0 rfl rfl)
theorem dL_law_1121 : decode cL_law 1121 = .ok (.aload_n 0, 1) := dk_42 (dk_at dksL_law_41 1 rfl rfl)
theorem dL_law_1122 : decode cL_law 1122 = .ok (.iload 4, 2) := dk_21 4 (dk_at dksL_law_41 2 rfl rfl)
theorem dL_law_1124 : decode cL_law 1124 = .ok (.iconst 2, 1) := dk_5 (dk_at dksL_law_41 4 rfl rfl)
theorem dL_law_1125 : decode cL_law 1125 = .ok (.iadd, 1) := dk_96 (dk_at dksL_law_41 5 rfl rfl)
theorem dL_law_1126 : decode cL_law 1126 = .ok (.iaload, 1) := dk_46 (dk_at dksL_law_41 6 rfl rfl)
theorem dL_law_1127 : decode cL_law 1127 = .ok (.aload_n 0, 1) := dk_42 (dk_at dksL_law_41 7 rfl rfl)
theorem dL_law_1128 : decode cL_law 1128 = .ok (.iload 4, 2) := dk_21 4 (dk_at dksL_law_41 8 rfl rfl)
theorem dL_law_1130 : decode cL_law 1130 = .ok (.iconst 3, 1) := dk_6 (dk_at dksL_law_41 10 rfl rfl)
theorem dL_law_1131 : decode cL_law 1131 = .ok (.iadd, 1) := dk_96 (dk_at dksL_law_41 11 rfl rfl)
theorem dL_law_1132 : decode cL_law 1132 = .ok (.iaload, 1) := dk_46 (dk_at dksL_law_41 12 rfl rfl)
theorem dL_law_1133 : decode cL_law 1133 = .ok (.aload_n 0, 1) := dk_42 (dk_at dksL_law_41 13 rfl rfl)
theorem dL_law_1134 : decode cL_law 1134 = .ok (.iload 4, 2) := dk_21 4 (dk_at dksL_law_41 14 rfl rfl)
theorem dL_law_1136 : decode cL_law 1136 = .ok (.iconst 4, 1) := dk_7 (dk_at dksL_law_41 16 rfl rfl)
theorem dL_law_1137 : decode cL_law 1137 = .ok (.iadd, 1) := dk_96 (dk_at dksL_law_41 17 rfl rfl)
theorem dL_law_1138 : decode cL_law 1138 = .ok (.iaload, 1) := dk_46 (dk_at dksL_law_41 18 rfl rfl)
theorem dL_law_1139 : decode cL_law 1139 = .ok (.invokevirtual 205, 3) := dk_182 0 205 (dk_at dksL_law_41 19 rfl rfl)
theorem dL_law_1142 : decode cL_law 1142 = .ok (.lstore 6, 2) := dk_55 6 (dk_at dksL_law_41 22 rfl rfl)
theorem dL_law_1144 : decode cL_law 1144 = .ok (.aload_n 2, 1) := dk_44 (dk_at dksL_law_42 0 rfl rfl)
theorem dL_law_1145 : decode cL_law 1145 = .ok (.invokevirtual 167, 3) := dk_182 0 167 (dk_at dksL_law_42 1 rfl rfl)
theorem dL_law_1148 : decode cL_law 1148 = .ok (.iload 5, 2) := dk_21 5 (dk_at dksL_law_42 4 rfl rfl)
theorem dL_law_1150 : decode cL_law 1150 = .ok (.if_icmp .eq 5, 3) := dk_159 0 5 (dk_at dksL_law_42 6 rfl rfl)
theorem dL_law_1153 : decode cL_law 1153 = .ok (.iconst 0, 1) := dk_3 (dk_at dksL_law_42 9 rfl rfl)
theorem dL_law_1154 : decode cL_law 1154 = .ok (.ireturn, 1) := dk_172 (dk_at dksL_law_42 10 rfl rfl)
theorem dL_law_1155 : decode cL_law 1155 = .ok (.iload 5, 2) := dk_21 5 (dk_at dksL_law_42 11 rfl rfl)
theorem dL_law_1157 : decode cL_law 1157 = .ok (.ifCond .ne 14, 3) := dk_154 0 14 (dk_at dksL_law_42 13 rfl rfl)
theorem dL_law_1160 : decode cL_law 1160 = .ok (.aload_n 3, 1) := dk_45 (dk_at dksL_law_42 16 rfl rfl)
theorem dL_law_1161 : decode cL_law 1161 = .ok (.iconst 0, 1) := dk_3 (dk_at dksL_law_42 17 rfl rfl)
theorem dL_law_1162 : decode cL_law 1162 = .ok (.laload, 1) := dk_47 (dk_at dksL_law_42 18 rfl rfl)
theorem dL_law_1163 : decode cL_law 1163 = .ok (.lload 6, 2) := dk_22 6 (dk_at dksL_law_42 19 rfl rfl)
theorem dL_law_1165 : decode cL_law 1165 = .ok (.lcmp, 1) := dk_148 (dk_at dksL_law_42 21 rfl rfl)
theorem dL_law_1166 : decode cL_law 1166 = .ok (.ifCond .eq 5, 3) := dk_153 0 5 (dk_at dksL_law_43 0 rfl rfl)
theorem dL_law_1169 : decode cL_law 1169 = .ok (.iconst 0, 1) := dk_3 (dk_at dksL_law_43 3 rfl rfl)
theorem dL_law_1170 : decode cL_law 1170 = .ok (.ireturn, 1) := dk_172 (dk_at dksL_law_43 4 rfl rfl)
theorem dL_law_1171 : decode cL_law 1171 = .ok (.goto 1957, 3) := dk_167 7 165 (dk_at dksL_law_43 5 rfl rfl)
theorem dL_law_1174 : decode cL_law 1174 = .ok (.aload_n 1, 1) := dk_43 (dk_at dksL_law_43 8 rfl rfl)
theorem dL_law_1175 : decode cL_law 1175 = .ok (.aload_n 0, 1) := dk_42 (dk_at dksL_law_43 9 rfl rfl)
theorem dL_law_1176 : decode cL_law 1176 = .ok (.iload 4, 2) := dk_21 4 (dk_at dksL_law_43 10 rfl rfl)
theorem dL_law_1178 : decode cL_law 1178 = .ok (.iconst 1, 1) := dk_4 (dk_at dksL_law_43 12 rfl rfl)
theorem dL_law_1179 : decode cL_law 1179 = .ok (.iadd, 1) := dk_96 (dk_at dksL_law_43 13 rfl rfl)
theorem dL_law_1180 : decode cL_law 1180 = .ok (.iaload, 1) := dk_46 (dk_at dksL_law_43 14 rfl rfl)
theorem dL_law_1181 : decode cL_law 1181 = .ok (.aload_n 0, 1) := dk_42 (dk_at dksL_law_43 15 rfl rfl)
theorem dL_law_1182 : decode cL_law 1182 = .ok (.iload 4, 2) := dk_21 4 (dk_at dksL_law_43 16 rfl rfl)
theorem dL_law_1184 : decode cL_law 1184 = .ok (.iconst 2, 1) := dk_5 (dk_at dksL_law_43 18 rfl rfl)
theorem dL_law_1185 : decode cL_law 1185 = .ok (.iadd, 1) := dk_96 (dk_at dksL_law_43 19 rfl rfl)
theorem dL_law_1186 : decode cL_law 1186 = .ok (.iaload, 1) := dk_46 (dk_at dksL_law_43 20 rfl rfl)
theorem dL_law_1187 : decode cL_law 1187 = .ok (.aload_n 0, 1) := dk_42 (dk_at dksL_law_43 21 rfl rfl)
theorem dL_law_1188 : decode cL_law 1188 = .ok (.iload 4, 2) := dk_21 4 (dk_at dksL_law_43 22 rfl rfl)
theorem dL_law_1190 : decode cL_law 1190 = .ok (.iconst 3, 1) := dk_6 (dk_at dksL_law_44 0 rfl rfl)
theorem dL_law_1191 : decode cL_law 1191 = .ok (.iadd, 1) := dk_96 (dk_at dksL_law_44 1 rfl rfl)
theorem dL_law_1192 : decode cL_law 1192 = .ok (.iaload, 1) := dk_46 (dk_at dksL_law_44 2 rfl rfl)
theorem dL_law_1193 : decode cL_law 1193 = .ok (.aload_n 3, 1) := dk_45 (dk_at dksL_law_44 3 rfl rfl)
theorem dL_law_1194 : decode cL_law 1194 = .ok (.invokestatic 206, 3) := dk_184 0 206 (dk_at dksL_law_44 4 rfl rfl)
theorem dL_law_1197 : decode cL_law 1197 = .ok (.istore 5, 2) := dk_54 5 (dk_at dksL_law_44 7 rfl rfl)
theorem dL_law_1199 : decode cL_law 1199 = .ok (.aload_n 2, 1) := dk_44 (dk_at dksL_law_44 9 rfl rfl)
theorem dL_law_1200 : decode cL_law 1200 = .ok (.aload_n 0, 1) := dk_42 (dk_at dksL_law_44 10 rfl rfl)
theorem dL_law_1201 : decode cL_law 1201 = .ok (.iload 4, 2) := dk_21 4 (dk_at dksL_law_44 11 rfl rfl)
theorem dL_law_1203 : decode cL_law 1203 = .ok (.iconst 1, 1) := dk_4 (dk_at dksL_law_44 13 rfl rfl)
theorem dL_law_1204 : decode cL_law 1204 = .ok (.iadd, 1) := dk_96 (dk_at dksL_law_44 14 rfl rfl)
theorem dL_law_1205 : decode cL_law 1205 = .ok (.iaload, 1) := dk_46 (dk_at dksL_law_44 15 rfl rfl)
theorem dL_law_1206 : decode cL_law 1206 = .ok (.aload_n 0, 1) := dk_42 (dk_at dksL_law_44 16 rfl rfl)
theorem dL_law_1207 : decode cL_law 1207 = .ok (.iload 4, 2) := dk_21 4 (dk_at dksL_law_44 17 rfl rfl)
theorem dL_law_1209 : decode cL_law 1209 = .ok (.iconst 2, 1) := dk_5 (dk_at dksL_law_44 19 rfl rfl)
theorem dL_law_1210 : decode cL_law 1210 = .ok (.iadd, 1) := dk_96 (dk_at dksL_law_44 20 rfl rfl)
theorem dL_law_1211 : decode cL_law 1211 = .ok (.iaload, 1) := dk_46 (dk_at dksL_law_44 21 rfl rfl)
theorem dL_law_1212 : decode cL_law 1212 = .ok (.aload_n 0, 1) := dk_42 (dk_at dksL_law_44 22 rfl rfl)
theorem dL_law_1213 : decode cL_law 1213 = .ok (.iload 4, 2) := dk_21 4 (dk_at dksL_law_45 0 rfl rfl)
theorem dL_law_1215 : decode cL_law 1215 = .ok (.iconst 3, 1) := dk_6 (dk_at dksL_law_45 2 rfl rfl)
theorem dL_law_1216 : decode cL_law 1216 = .ok (.iadd, 1) := dk_96 (dk_at dksL_law_45 3 rfl rfl)
theorem dL_law_1217 : decode cL_law 1217 = .ok (.iaload, 1) := dk_46 (dk_at dksL_law_45 4 rfl rfl)
theorem dL_law_1218 : decode cL_law 1218 = .ok (.invokevirtual 208, 3) := dk_182 0 208 (dk_at dksL_law_45 5 rfl rfl)
theorem dL_law_1221 : decode cL_law 1221 = .ok (.lstore 6, 2) := dk_55 6 (dk_at dksL_law_45 8 rfl rfl)
theorem dL_law_1223 : decode cL_law 1223 = .ok (.aload_n 2, 1) := dk_44 (dk_at dksL_law_45 10 rfl rfl)
theorem dL_law_1224 : decode cL_law 1224 = .ok (.invokevirtual 167, 3) := dk_182 0 167 (dk_at dksL_law_45 11 rfl rfl)
theorem dL_law_1227 : decode cL_law 1227 = .ok (.iload 5, 2) := dk_21 5 (dk_at dksL_law_45 14 rfl rfl)
theorem dL_law_1229 : decode cL_law 1229 = .ok (.if_icmp .eq 5, 3) := dk_159 0 5 (dk_at dksL_law_45 16 rfl rfl)
theorem dL_law_1232 : decode cL_law 1232 = .ok (.iconst 0, 1) := dk_3 (dk_at dksL_law_45 19 rfl rfl)
theorem dL_law_1233 : decode cL_law 1233 = .ok (.ireturn, 1) := dk_172 (dk_at dksL_law_45 20 rfl rfl)
theorem dL_law_1234 : decode cL_law 1234 = .ok (.iload 5, 2) := dk_21 5 (dk_at dksL_law_45 21 rfl rfl)
theorem dL_law_1236 : decode cL_law 1236 = .ok (.ifCond .ne 14, 3) := dk_154 0 14 (dk_at dksL_law_46 0 rfl rfl)
theorem dL_law_1239 : decode cL_law 1239 = .ok (.aload_n 3, 1) := dk_45 (dk_at dksL_law_46 3 rfl rfl)
theorem dL_law_1240 : decode cL_law 1240 = .ok (.iconst 0, 1) := dk_3 (dk_at dksL_law_46 4 rfl rfl)
theorem dL_law_1241 : decode cL_law 1241 = .ok (.laload, 1) := dk_47 (dk_at dksL_law_46 5 rfl rfl)
theorem dL_law_1242 : decode cL_law 1242 = .ok (.lload 6, 2) := dk_22 6 (dk_at dksL_law_46 6 rfl rfl)
theorem dL_law_1244 : decode cL_law 1244 = .ok (.lcmp, 1) := dk_148 (dk_at dksL_law_46 8 rfl rfl)
theorem dL_law_1245 : decode cL_law 1245 = .ok (.ifCond .eq 5, 3) := dk_153 0 5 (dk_at dksL_law_46 9 rfl rfl)
theorem dL_law_1248 : decode cL_law 1248 = .ok (.iconst 0, 1) := dk_3 (dk_at dksL_law_46 12 rfl rfl)
theorem dL_law_1249 : decode cL_law 1249 = .ok (.ireturn, 1) := dk_172 (dk_at dksL_law_46 13 rfl rfl)
theorem dL_law_1250 : decode cL_law 1250 = .ok (.goto 1878, 3) := dk_167 7 86 (dk_at dksL_law_46 14 rfl rfl)
theorem dL_law_1253 : decode cL_law 1253 = .ok (.aload_n 1, 1) := dk_43 (dk_at dksL_law_46 17 rfl rfl)
theorem dL_law_1254 : decode cL_law 1254 = .ok (.aload_n 0, 1) := dk_42 (dk_at dksL_law_46 18 rfl rfl)
theorem dL_law_1255 : decode cL_law 1255 = .ok (.iload 4, 2) := dk_21 4 (dk_at dksL_law_46 19 rfl rfl)
theorem dL_law_1257 : decode cL_law 1257 = .ok (.iconst 1, 1) := dk_4 (dk_at dksL_law_46 21 rfl rfl)
theorem dL_law_1258 : decode cL_law 1258 = .ok (.iadd, 1) := dk_96 (dk_at dksL_law_46 22 rfl rfl)
theorem dL_law_1259 : decode cL_law 1259 = .ok (.iaload, 1) := dk_46 (dk_at dksL_law_46 23 rfl rfl)
theorem dL_law_1260 : decode cL_law 1260 = .ok (.aload_n 0, 1) := dk_42 (dk_at dksL_law_47 0 rfl rfl)
theorem dL_law_1261 : decode cL_law 1261 = .ok (.iload 4, 2) := dk_21 4 (dk_at dksL_law_47 1 rfl rfl)
theorem dL_law_1263 : decode cL_law 1263 = .ok (.iconst 2, 1) := dk_5 (dk_at dksL_law_47 3 rfl rfl)
theorem dL_law_1264 : decode cL_law 1264 = .ok (.iadd, 1) := dk_96 (dk_at dksL_law_47 4 rfl rfl)
theorem dL_law_1265 : decode cL_law 1265 = .ok (.iaload, 1) := dk_46 (dk_at dksL_law_47 5 rfl rfl)
theorem dL_law_1266 : decode cL_law 1266 = .ok (.aload_n 0, 1) := dk_42 (dk_at dksL_law_47 6 rfl rfl)
theorem dL_law_1267 : decode cL_law 1267 = .ok (.iload 4, 2) := dk_21 4 (dk_at dksL_law_47 7 rfl rfl)
theorem dL_law_1269 : decode cL_law 1269 = .ok (.iconst 3, 1) := dk_6 (dk_at dksL_law_47 9 rfl rfl)
theorem dL_law_1270 : decode cL_law 1270 = .ok (.iadd, 1) := dk_96 (dk_at dksL_law_47 10 rfl rfl)
theorem dL_law_1271 : decode cL_law 1271 = .ok (.iaload, 1) := dk_46 (dk_at dksL_law_47 11 rfl rfl)
theorem dL_law_1272 : decode cL_law 1272 = .ok (.aload_n 0, 1) := dk_42 (dk_at dksL_law_47 12 rfl rfl)
theorem dL_law_1273 : decode cL_law 1273 = .ok (.iload 4, 2) := dk_21 4 (dk_at dksL_law_47 13 rfl rfl)
theorem dL_law_1275 : decode cL_law 1275 = .ok (.iconst 4, 1) := dk_7 (dk_at dksL_law_47 15 rfl rfl)
theorem dL_law_1276 : decode cL_law 1276 = .ok (.iadd, 1) := dk_96 (dk_at dksL_law_47 16 rfl rfl)
theorem dL_law_1277 : decode cL_law 1277 = .ok (.iaload, 1) := dk_46 (dk_at dksL_law_47 17 rfl rfl)
theorem dL_law_1278 : decode cL_law 1278 = .ok (.aload_n 3, 1) := dk_45 (dk_at dksL_law_47 18 rfl rfl)
theorem dL_law_1279 : decode cL_law 1279 = .ok (.invokestatic 209, 3) := dk_184 0 209 (dk_at dksL_law_47 19 rfl rfl)
theorem dL_law_1282 : decode cL_law 1282 = .ok (.istore 5, 2) := dk_54 5 (dk_at dksL_law_47 22 rfl rfl)
theorem dL_law_1284 : decode cL_law 1284 = .ok (.aload_n 2, 1) := dk_44 (dk_at dksL_law_48 0 rfl rfl)
theorem dL_law_1285 : decode cL_law 1285 = .ok (.aload_n 0, 1) := dk_42 (dk_at dksL_law_48 1 rfl rfl)
theorem dL_law_1286 : decode cL_law 1286 = .ok (.iload 4, 2) := dk_21 4 (dk_at dksL_law_48 2 rfl rfl)
theorem dL_law_1288 : decode cL_law 1288 = .ok (.iconst 1, 1) := dk_4 (dk_at dksL_law_48 4 rfl rfl)
theorem dL_law_1289 : decode cL_law 1289 = .ok (.iadd, 1) := dk_96 (dk_at dksL_law_48 5 rfl rfl)
theorem dL_law_1290 : decode cL_law 1290 = .ok (.iaload, 1) := dk_46 (dk_at dksL_law_48 6 rfl rfl)
theorem dL_law_1291 : decode cL_law 1291 = .ok (.aload_n 0, 1) := dk_42 (dk_at dksL_law_48 7 rfl rfl)
theorem dL_law_1292 : decode cL_law 1292 = .ok (.iload 4, 2) := dk_21 4 (dk_at dksL_law_48 8 rfl rfl)
theorem dL_law_1294 : decode cL_law 1294 = .ok (.iconst 2, 1) := dk_5 (dk_at dksL_law_48 10 rfl rfl)
theorem dL_law_1295 : decode cL_law 1295 = .ok (.iadd, 1) := dk_96 (dk_at dksL_law_48 11 rfl rfl)
theorem dL_law_1296 : decode cL_law 1296 = .ok (.iaload, 1) := dk_46 (dk_at dksL_law_48 12 rfl rfl)
theorem dL_law_1297 : decode cL_law 1297 = .ok (.aload_n 0, 1) := dk_42 (dk_at dksL_law_48 13 rfl rfl)
theorem dL_law_1298 : decode cL_law 1298 = .ok (.iload 4, 2) := dk_21 4 (dk_at dksL_law_48 14 rfl rfl)
theorem dL_law_1300 : decode cL_law 1300 = .ok (.iconst 3, 1) := dk_6 (dk_at dksL_law_48 16 rfl rfl)
theorem dL_law_1301 : decode cL_law 1301 = .ok (.iadd, 1) := dk_96 (dk_at dksL_law_48 17 rfl rfl)
theorem dL_law_1302 : decode cL_law 1302 = .ok (.iaload, 1) := dk_46 (dk_at dksL_law_48 18 rfl rfl)
theorem dL_law_1303 : decode cL_law 1303 = .ok (.aload_n 0, 1) := dk_42 (dk_at dksL_law_48 19 rfl rfl)
theorem dL_law_1304 : decode cL_law 1304 = .ok (.iload 4, 2) := dk_21 4 (dk_at dksL_law_48 20 rfl rfl)
theorem dL_law_1306 : decode cL_law 1306 = .ok (.iconst 4, 1) := dk_7 (dk_at dksL_law_48 22 rfl rfl)
theorem dL_law_1307 : decode cL_law 1307 = .ok (.iadd, 1) := dk_96 (dk_at dksL_law_48 23 rfl rfl)
theorem dL_law_1308 : decode cL_law 1308 = .ok (.iaload, 1) := dk_46 (dk_at dksL_law_49 0 rfl rfl)
theorem dL_law_1309 : decode cL_law 1309 = .ok (.invokevirtual 211, 3) := dk_182 0 211 (dk_at dksL_law_49 1 rfl rfl)
theorem dL_law_1312 : decode cL_law 1312 = .ok (.istore 6, 2) := dk_54 6 (dk_at dksL_law_49 4 rfl rfl)
theorem dL_law_1314 : decode cL_law 1314 = .ok (.aload_n 2, 1) := dk_44 (dk_at dksL_law_49 6 rfl rfl)
theorem dL_law_1315 : decode cL_law 1315 = .ok (.invokevirtual 167, 3) := dk_182 0 167 (dk_at dksL_law_49 7 rfl rfl)
theorem dL_law_1318 : decode cL_law 1318 = .ok (.iload 5, 2) := dk_21 5 (dk_at dksL_law_49 10 rfl rfl)
theorem dL_law_1320 : decode cL_law 1320 = .ok (.if_icmp .eq 5, 3) := dk_159 0 5 (dk_at dksL_law_49 12 rfl rfl)
theorem dL_law_1323 : decode cL_law 1323 = .ok (.iconst 0, 1) := dk_3 (dk_at dksL_law_49 15 rfl rfl)
theorem dL_law_1324 : decode cL_law 1324 = .ok (.ireturn, 1) := dk_172 (dk_at dksL_law_49 16 rfl rfl)
theorem dL_law_1325 : decode cL_law 1325 = .ok (.iload 5, 2) := dk_21 5 (dk_at dksL_law_49 17 rfl rfl)
theorem dL_law_1327 : decode cL_law 1327 = .ok (.ifCond .ne 15, 3) := dk_154 0 15 (dk_at dksL_law_49 19 rfl rfl)
theorem dL_law_1330 : decode cL_law 1330 = .ok (.aload_n 3, 1) := dk_45 (dk_at dksL_law_49 22 rfl rfl)
theorem dL_law_1331 : decode cL_law 1331 = .ok (.iconst 0, 1) := dk_3 (dk_at dksL_law_49 23 rfl rfl)
theorem dL_law_1332 : decode cL_law 1332 = .ok (.laload, 1) := dk_47 (dk_at dksL_law_50 0 rfl rfl)
theorem dL_law_1333 : decode cL_law 1333 = .ok (.iload 6, 2) := dk_21 6 (dk_at dksL_law_50 1 rfl rfl)
theorem dL_law_1335 : decode cL_law 1335 = .ok (.i2l, 1) := dk_133 (dk_at dksL_law_50 3 rfl rfl)
theorem dL_law_1336 : decode cL_law 1336 = .ok (.lcmp, 1) := dk_148 (dk_at dksL_law_50 4 rfl rfl)
theorem dL_law_1337 : decode cL_law 1337 = .ok (.ifCond .eq 5, 3) := dk_153 0 5 (dk_at dksL_law_50 5 rfl rfl)
theorem dL_law_1340 : decode cL_law 1340 = .ok (.iconst 0, 1) := dk_3 (dk_at dksL_law_50 8 rfl rfl)
theorem dL_law_1341 : decode cL_law 1341 = .ok (.ireturn, 1) := dk_172 (dk_at dksL_law_50 9 rfl rfl)
theorem dL_law_1342 : decode cL_law 1342 = .ok (.goto 1786, 3) := dk_167 6 250 (dk_at dksL_law_50 10 rfl rfl)
theorem dL_law_1345 : decode cL_law 1345 = .ok (.aload_n 1, 1) := dk_43 (dk_at dksL_law_50 13 rfl rfl)
theorem dL_law_1346 : decode cL_law 1346 = .ok (.aload_n 3, 1) := dk_45 (dk_at dksL_law_50 14 rfl rfl)
theorem dL_law_1347 : decode cL_law 1347 = .ok (.invokestatic 212, 3) := dk_184 0 212 (dk_at dksL_law_50 15 rfl rfl)
theorem dL_law_1350 : decode cL_law 1350 = .ok (.istore 5, 2) := dk_54 5 (dk_at dksL_law_50 18 rfl rfl)
theorem dL_law_1352 : decode cL_law 1352 = .ok (.aload_n 2, 1) := dk_44 (dk_at dksL_law_50 20 rfl rfl)
theorem dL_law_1353 : decode cL_law 1353 = .ok (.invokevirtual 215, 3) := dk_182 0 215 (dk_at dksL_law_50 21 rfl rfl)
theorem dL_law_1356 : decode cL_law 1356 = .ok (.istore 6, 2) := dk_54 6 (dk_at dksL_law_51 0 rfl rfl)
theorem dL_law_1358 : decode cL_law 1358 = .ok (.aload_n 2, 1) := dk_44 (dk_at dksL_law_51 2 rfl rfl)
theorem dL_law_1359 : decode cL_law 1359 = .ok (.invokevirtual 167, 3) := dk_182 0 167 (dk_at dksL_law_51 3 rfl rfl)
theorem dL_law_1362 : decode cL_law 1362 = .ok (.iload 5, 2) := dk_21 5 (dk_at dksL_law_51 6 rfl rfl)
theorem dL_law_1364 : decode cL_law 1364 = .ok (.if_icmp .eq 5, 3) := dk_159 0 5 (dk_at dksL_law_51 8 rfl rfl)
theorem dL_law_1367 : decode cL_law 1367 = .ok (.iconst 0, 1) := dk_3 (dk_at dksL_law_51 11 rfl rfl)
theorem dL_law_1368 : decode cL_law 1368 = .ok (.ireturn, 1) := dk_172 (dk_at dksL_law_51 12 rfl rfl)
theorem dL_law_1369 : decode cL_law 1369 = .ok (.iload 5, 2) := dk_21 5 (dk_at dksL_law_51 13 rfl rfl)
theorem dL_law_1371 : decode cL_law 1371 = .ok (.ifCond .ne 15, 3) := dk_154 0 15 (dk_at dksL_law_51 15 rfl rfl)
theorem dL_law_1374 : decode cL_law 1374 = .ok (.aload_n 3, 1) := dk_45 (dk_at dksL_law_51 18 rfl rfl)
theorem dL_law_1375 : decode cL_law 1375 = .ok (.iconst 0, 1) := dk_3 (dk_at dksL_law_51 19 rfl rfl)
theorem dL_law_1376 : decode cL_law 1376 = .ok (.laload, 1) := dk_47 (dk_at dksL_law_51 20 rfl rfl)
theorem dL_law_1377 : decode cL_law 1377 = .ok (.iload 6, 2) := dk_21 6 (dk_at dksL_law_51 21 rfl rfl)
theorem dL_law_1379 : decode cL_law 1379 = .ok (.i2l, 1) := dk_133 (dk_at dksL_law_51 23 rfl rfl)
theorem dL_law_1380 : decode cL_law 1380 = .ok (.lcmp, 1) := dk_148 (dk_at dksL_law_52 0 rfl rfl)
theorem dL_law_1381 : decode cL_law 1381 = .ok (.ifCond .eq 5, 3) := dk_153 0 5 (dk_at dksL_law_52 1 rfl rfl)
theorem dL_law_1384 : decode cL_law 1384 = .ok (.iconst 0, 1) := dk_3 (dk_at dksL_law_52 4 rfl rfl)
theorem dL_law_1385 : decode cL_law 1385 = .ok (.ireturn, 1) := dk_172 (dk_at dksL_law_52 5 rfl rfl)
theorem dL_law_1386 : decode cL_law 1386 = .ok (.goto 1742, 3) := dk_167 6 206 (dk_at dksL_law_52 6 rfl rfl)
theorem dL_law_1389 : decode cL_law 1389 = .ok (.aload_n 1, 1) := dk_43 (dk_at dksL_law_52 9 rfl rfl)
theorem dL_law_1390 : decode cL_law 1390 = .ok (.aload_n 0, 1) := dk_42 (dk_at dksL_law_52 10 rfl rfl)
theorem dL_law_1391 : decode cL_law 1391 = .ok (.iload 4, 2) := dk_21 4 (dk_at dksL_law_52 11 rfl rfl)
theorem dL_law_1393 : decode cL_law 1393 = .ok (.iconst 1, 1) := dk_4 (dk_at dksL_law_52 13 rfl rfl)
theorem dL_law_1394 : decode cL_law 1394 = .ok (.iadd, 1) := dk_96 (dk_at dksL_law_52 14 rfl rfl)
theorem dL_law_1395 : decode cL_law 1395 = .ok (.iaload, 1) := dk_46 (dk_at dksL_law_52 15 rfl rfl)
theorem dL_law_1396 : decode cL_law 1396 = .ok (.aload_n 0, 1) := dk_42 (dk_at dksL_law_52 16 rfl rfl)
theorem dL_law_1397 : decode cL_law 1397 = .ok (.iload 4, 2) := dk_21 4 (dk_at dksL_law_52 17 rfl rfl)
theorem dL_law_1399 : decode cL_law 1399 = .ok (.iconst 2, 1) := dk_5 (dk_at dksL_law_52 19 rfl rfl)
theorem dL_law_1400 : decode cL_law 1400 = .ok (.iadd, 1) := dk_96 (dk_at dksL_law_52 20 rfl rfl)
theorem dL_law_1401 : decode cL_law 1401 = .ok (.iaload, 1) := dk_46 (dk_at dksL_law_52 21 rfl rfl)
theorem dL_law_1402 : decode cL_law 1402 = .ok (.aload_n 0, 1) := dk_42 (dk_at dksL_law_52 22 rfl rfl)
theorem dL_law_1403 : decode cL_law 1403 = .ok (.iload 4, 2) := dk_21 4 (dk_at dksL_law_53 0 rfl rfl)
theorem dL_law_1405 : decode cL_law 1405 = .ok (.iconst 3, 1) := dk_6 (dk_at dksL_law_53 2 rfl rfl)
theorem dL_law_1406 : decode cL_law 1406 = .ok (.iadd, 1) := dk_96 (dk_at dksL_law_53 3 rfl rfl)
theorem dL_law_1407 : decode cL_law 1407 = .ok (.iaload, 1) := dk_46 (dk_at dksL_law_53 4 rfl rfl)
theorem dL_law_1408 : decode cL_law 1408 = .ok (.aload_n 0, 1) := dk_42 (dk_at dksL_law_53 5 rfl rfl)
theorem dL_law_1409 : decode cL_law 1409 = .ok (.iload 4, 2) := dk_21 4 (dk_at dksL_law_53 6 rfl rfl)
theorem dL_law_1411 : decode cL_law 1411 = .ok (.iconst 4, 1) := dk_7 (dk_at dksL_law_53 8 rfl rfl)
theorem dL_law_1412 : decode cL_law 1412 = .ok (.iadd, 1) := dk_96 (dk_at dksL_law_53 9 rfl rfl)
theorem dL_law_1413 : decode cL_law 1413 = .ok (.iaload, 1) := dk_46 (dk_at dksL_law_53 10 rfl rfl)
theorem dL_law_1414 : decode cL_law 1414 = .ok (.aload_n 3, 1) := dk_45 (dk_at dksL_law_53 11 rfl rfl)
theorem dL_law_1415 : decode cL_law 1415 = .ok (.invokestatic 216, 3) := dk_184 0 216 (dk_at dksL_law_53 12 rfl rfl)
theorem dL_law_1418 : decode cL_law 1418 = .ok (.istore 5, 2) := dk_54 5 (dk_at dksL_law_53 15 rfl rfl)
theorem dL_law_1420 : decode cL_law 1420 = .ok (.aload_n 2, 1) := dk_44 (dk_at dksL_law_53 17 rfl rfl)
theorem dL_law_1421 : decode cL_law 1421 = .ok (.aload_n 0, 1) := dk_42 (dk_at dksL_law_53 18 rfl rfl)
theorem dL_law_1422 : decode cL_law 1422 = .ok (.iload 4, 2) := dk_21 4 (dk_at dksL_law_53 19 rfl rfl)
theorem dL_law_1424 : decode cL_law 1424 = .ok (.iconst 1, 1) := dk_4 (dk_at dksL_law_53 21 rfl rfl)
theorem dL_law_1425 : decode cL_law 1425 = .ok (.iadd, 1) := dk_96 (dk_at dksL_law_53 22 rfl rfl)
theorem dL_law_1426 : decode cL_law 1426 = .ok (.iaload, 1) := dk_46 (dk_at dksL_law_53 23 rfl rfl)
theorem dL_law_1427 : decode cL_law 1427 = .ok (.aload_n 0, 1) := dk_42 (dk_at dksL_law_54 0 rfl rfl)
theorem dL_law_1428 : decode cL_law 1428 = .ok (.iload 4, 2) := dk_21 4 (dk_at dksL_law_54 1 rfl rfl)
theorem dL_law_1430 : decode cL_law 1430 = .ok (.iconst 2, 1) := dk_5 (dk_at dksL_law_54 3 rfl rfl)
theorem dL_law_1431 : decode cL_law 1431 = .ok (.iadd, 1) := dk_96 (dk_at dksL_law_54 4 rfl rfl)
theorem dL_law_1432 : decode cL_law 1432 = .ok (.iaload, 1) := dk_46 (dk_at dksL_law_54 5 rfl rfl)
theorem dL_law_1433 : decode cL_law 1433 = .ok (.aload_n 0, 1) := dk_42 (dk_at dksL_law_54 6 rfl rfl)
theorem dL_law_1434 : decode cL_law 1434 = .ok (.iload 4, 2) := dk_21 4 (dk_at dksL_law_54 7 rfl rfl)
theorem dL_law_1436 : decode cL_law 1436 = .ok (.iconst 3, 1) := dk_6 (dk_at dksL_law_54 9 rfl rfl)
theorem dL_law_1437 : decode cL_law 1437 = .ok (.iadd, 1) := dk_96 (dk_at dksL_law_54 10 rfl rfl)
theorem dL_law_1438 : decode cL_law 1438 = .ok (.iaload, 1) := dk_46 (dk_at dksL_law_54 11 rfl rfl)
theorem dL_law_1439 : decode cL_law 1439 = .ok (.aload_n 0, 1) := dk_42 (dk_at dksL_law_54 12 rfl rfl)
theorem dL_law_1440 : decode cL_law 1440 = .ok (.iload 4, 2) := dk_21 4 (dk_at dksL_law_54 13 rfl rfl)
theorem dL_law_1442 : decode cL_law 1442 = .ok (.iconst 4, 1) := dk_7 (dk_at dksL_law_54 15 rfl rfl)
theorem dL_law_1443 : decode cL_law 1443 = .ok (.iadd, 1) := dk_96 (dk_at dksL_law_54 16 rfl rfl)
theorem dL_law_1444 : decode cL_law 1444 = .ok (.iaload, 1) := dk_46 (dk_at dksL_law_54 17 rfl rfl)
theorem dL_law_1445 : decode cL_law 1445 = .ok (.invokevirtual 218, 3) := dk_182 0 218 (dk_at dksL_law_54 18 rfl rfl)
theorem dL_law_1448 : decode cL_law 1448 = .ok (.istore 6, 2) := dk_54 6 (dk_at dksL_law_54 21 rfl rfl)
theorem dL_law_1450 : decode cL_law 1450 = .ok (.aload_n 2, 1) := dk_44 (dk_at dksL_law_54 23 rfl rfl)
theorem dL_law_1451 : decode cL_law 1451 = .ok (.invokevirtual 167, 3) := dk_182 0 167 (dk_at dksL_law_55 0 rfl rfl)
theorem dL_law_1454 : decode cL_law 1454 = .ok (.iload 5, 2) := dk_21 5 (dk_at dksL_law_55 3 rfl rfl)
theorem dL_law_1456 : decode cL_law 1456 = .ok (.if_icmp .eq 5, 3) := dk_159 0 5 (dk_at dksL_law_55 5 rfl rfl)
theorem dL_law_1459 : decode cL_law 1459 = .ok (.iconst 0, 1) := dk_3 (dk_at dksL_law_55 8 rfl rfl)
theorem dL_law_1460 : decode cL_law 1460 = .ok (.ireturn, 1) := dk_172 (dk_at dksL_law_55 9 rfl rfl)
theorem dL_law_1461 : decode cL_law 1461 = .ok (.iload 5, 2) := dk_21 5 (dk_at dksL_law_55 10 rfl rfl)
theorem dL_law_1463 : decode cL_law 1463 = .ok (.ifCond .ne 15, 3) := dk_154 0 15 (dk_at dksL_law_55 12 rfl rfl)
theorem dL_law_1466 : decode cL_law 1466 = .ok (.aload_n 3, 1) := dk_45 (dk_at dksL_law_55 15 rfl rfl)
theorem dL_law_1467 : decode cL_law 1467 = .ok (.iconst 0, 1) := dk_3 (dk_at dksL_law_55 16 rfl rfl)
theorem dL_law_1468 : decode cL_law 1468 = .ok (.laload, 1) := dk_47 (dk_at dksL_law_55 17 rfl rfl)
theorem dL_law_1469 : decode cL_law 1469 = .ok (.iload 6, 2) := dk_21 6 (dk_at dksL_law_55 18 rfl rfl)
theorem dL_law_1471 : decode cL_law 1471 = .ok (.i2l, 1) := dk_133 (dk_at dksL_law_55 20 rfl rfl)
theorem dL_law_1472 : decode cL_law 1472 = .ok (.lcmp, 1) := dk_148 (dk_at dksL_law_55 21 rfl rfl)
theorem dL_law_1473 : decode cL_law 1473 = .ok (.ifCond .eq 5, 3) := dk_153 0 5 (dk_at dksL_law_56 0 rfl rfl)
theorem dL_law_1476 : decode cL_law 1476 = .ok (.iconst 0, 1) := dk_3 (dk_at dksL_law_56 3 rfl rfl)
theorem dL_law_1477 : decode cL_law 1477 = .ok (.ireturn, 1) := dk_172 (dk_at dksL_law_56 4 rfl rfl)
theorem dL_law_1478 : decode cL_law 1478 = .ok (.goto 1650, 3) := dk_167 6 114 (dk_at dksL_law_56 5 rfl rfl)
theorem dL_law_1481 : decode cL_law 1481 = .ok (.aload_n 1, 1) := dk_43 (dk_at dksL_law_56 8 rfl rfl)
theorem dL_law_1482 : decode cL_law 1482 = .ok (.aload_n 0, 1) := dk_42 (dk_at dksL_law_56 9 rfl rfl)
theorem dL_law_1483 : decode cL_law 1483 = .ok (.iload 4, 2) := dk_21 4 (dk_at dksL_law_56 10 rfl rfl)
theorem dL_law_1485 : decode cL_law 1485 = .ok (.iconst 1, 1) := dk_4 (dk_at dksL_law_56 12 rfl rfl)
theorem dL_law_1486 : decode cL_law 1486 = .ok (.iadd, 1) := dk_96 (dk_at dksL_law_56 13 rfl rfl)
theorem dL_law_1487 : decode cL_law 1487 = .ok (.iaload, 1) := dk_46 (dk_at dksL_law_56 14 rfl rfl)
theorem dL_law_1488 : decode cL_law 1488 = .ok (.aload_n 0, 1) := dk_42 (dk_at dksL_law_56 15 rfl rfl)
theorem dL_law_1489 : decode cL_law 1489 = .ok (.iload 4, 2) := dk_21 4 (dk_at dksL_law_56 16 rfl rfl)
theorem dL_law_1491 : decode cL_law 1491 = .ok (.iconst 2, 1) := dk_5 (dk_at dksL_law_56 18 rfl rfl)
theorem dL_law_1492 : decode cL_law 1492 = .ok (.iadd, 1) := dk_96 (dk_at dksL_law_56 19 rfl rfl)
theorem dL_law_1493 : decode cL_law 1493 = .ok (.iaload, 1) := dk_46 (dk_at dksL_law_56 20 rfl rfl)
theorem dL_law_1494 : decode cL_law 1494 = .ok (.aload_n 3, 1) := dk_45 (dk_at dksL_law_56 21 rfl rfl)
theorem dL_law_1495 : decode cL_law 1495 = .ok (.invokestatic 219, 3) := dk_184 0 219 (dk_at dksL_law_57 0 rfl rfl)
theorem dL_law_1498 : decode cL_law 1498 = .ok (.istore 5, 2) := dk_54 5 (dk_at dksL_law_57 3 rfl rfl)
theorem dL_law_1500 : decode cL_law 1500 = .ok (.aload_n 2, 1) := dk_44 (dk_at dksL_law_57 5 rfl rfl)
theorem dL_law_1501 : decode cL_law 1501 = .ok (.aload_n 0, 1) := dk_42 (dk_at dksL_law_57 6 rfl rfl)
theorem dL_law_1502 : decode cL_law 1502 = .ok (.iload 4, 2) := dk_21 4 (dk_at dksL_law_57 7 rfl rfl)
theorem dL_law_1504 : decode cL_law 1504 = .ok (.iconst 1, 1) := dk_4 (dk_at dksL_law_57 9 rfl rfl)
theorem dL_law_1505 : decode cL_law 1505 = .ok (.iadd, 1) := dk_96 (dk_at dksL_law_57 10 rfl rfl)
theorem dL_law_1506 : decode cL_law 1506 = .ok (.iaload, 1) := dk_46 (dk_at dksL_law_57 11 rfl rfl)
theorem dL_law_1507 : decode cL_law 1507 = .ok (.aload_n 0, 1) := dk_42 (dk_at dksL_law_57 12 rfl rfl)
theorem dL_law_1508 : decode cL_law 1508 = .ok (.iload 4, 2) := dk_21 4 (dk_at dksL_law_57 13 rfl rfl)
theorem dL_law_1510 : decode cL_law 1510 = .ok (.iconst 2, 1) := dk_5 (dk_at dksL_law_57 15 rfl rfl)
theorem dL_law_1511 : decode cL_law 1511 = .ok (.iadd, 1) := dk_96 (dk_at dksL_law_57 16 rfl rfl)
theorem dL_law_1512 : decode cL_law 1512 = .ok (.iaload, 1) := dk_46 (dk_at dksL_law_57 17 rfl rfl)
theorem dL_law_1513 : decode cL_law 1513 = .ok (.invokevirtual 222, 3) := dk_182 0 222 (dk_at dksL_law_57 18 rfl rfl)
theorem dL_law_1516 : decode cL_law 1516 = .ok (.istore 6, 2) := dk_54 6 (dk_at dksL_law_57 21 rfl rfl)
theorem dL_law_1518 : decode cL_law 1518 = .ok (.aload_n 2, 1) := dk_44 (dk_at dksL_law_57 23 rfl rfl)
theorem dL_law_1519 : decode cL_law 1519 = .ok (.invokevirtual 167, 3) := dk_182 0 167 (dk_at dksL_law_58 0 rfl rfl)
theorem dL_law_1522 : decode cL_law 1522 = .ok (.iload 5, 2) := dk_21 5 (dk_at dksL_law_58 3 rfl rfl)
theorem dL_law_1524 : decode cL_law 1524 = .ok (.if_icmp .eq 5, 3) := dk_159 0 5 (dk_at dksL_law_58 5 rfl rfl)
theorem dL_law_1527 : decode cL_law 1527 = .ok (.iconst 0, 1) := dk_3 (dk_at dksL_law_58 8 rfl rfl)
theorem dL_law_1528 : decode cL_law 1528 = .ok (.ireturn, 1) := dk_172 (dk_at dksL_law_58 9 rfl rfl)
theorem dL_law_1529 : decode cL_law 1529 = .ok (.iload 5, 2) := dk_21 5 (dk_at dksL_law_58 10 rfl rfl)
theorem dL_law_1531 : decode cL_law 1531 = .ok (.ifCond .ne 15, 3) := dk_154 0 15 (dk_at dksL_law_58 12 rfl rfl)
theorem dL_law_1534 : decode cL_law 1534 = .ok (.aload_n 3, 1) := dk_45 (dk_at dksL_law_58 15 rfl rfl)
theorem dL_law_1535 : decode cL_law 1535 = .ok (.iconst 0, 1) := dk_3 (dk_at dksL_law_58 16 rfl rfl)
theorem dL_law_1536 : decode cL_law 1536 = .ok (.laload, 1) := dk_47 (dk_at dksL_law_58 17 rfl rfl)
theorem dL_law_1537 : decode cL_law 1537 = .ok (.iload 6, 2) := dk_21 6 (dk_at dksL_law_58 18 rfl rfl)
theorem dL_law_1539 : decode cL_law 1539 = .ok (.i2l, 1) := dk_133 (dk_at dksL_law_58 20 rfl rfl)
theorem dL_law_1540 : decode cL_law 1540 = .ok (.lcmp, 1) := dk_148 (dk_at dksL_law_58 21 rfl rfl)
theorem dL_law_1541 : decode cL_law 1541 = .ok (.ifCond .eq 5, 3) := dk_153 0 5 (dk_at dksL_law_59 0 rfl rfl)
theorem dL_law_1544 : decode cL_law 1544 = .ok (.iconst 0, 1) := dk_3 (dk_at dksL_law_59 3 rfl rfl)
theorem dL_law_1545 : decode cL_law 1545 = .ok (.ireturn, 1) := dk_172 (dk_at dksL_law_59 4 rfl rfl)
theorem dL_law_1546 : decode cL_law 1546 = .ok (.goto 1582, 3) := dk_167 6 46 (dk_at dksL_law_59 5 rfl rfl)
theorem dL_law_1549 : decode cL_law 1549 = .ok (.aload_n 1, 1) := dk_43 (dk_at dksL_law_59 8 rfl rfl)
theorem dL_law_1550 : decode cL_law 1550 = .ok (.aload_n 0, 1) := dk_42 (dk_at dksL_law_59 9 rfl rfl)
theorem dL_law_1551 : decode cL_law 1551 = .ok (.iload 4, 2) := dk_21 4 (dk_at dksL_law_59 10 rfl rfl)
theorem dL_law_1553 : decode cL_law 1553 = .ok (.iconst 1, 1) := dk_4 (dk_at dksL_law_59 12 rfl rfl)
theorem dL_law_1554 : decode cL_law 1554 = .ok (.iadd, 1) := dk_96 (dk_at dksL_law_59 13 rfl rfl)
theorem dL_law_1555 : decode cL_law 1555 = .ok (.iaload, 1) := dk_46 (dk_at dksL_law_59 14 rfl rfl)
theorem dL_law_1556 : decode cL_law 1556 = .ok (.aload_n 0, 1) := dk_42 (dk_at dksL_law_59 15 rfl rfl)
theorem dL_law_1557 : decode cL_law 1557 = .ok (.iload 4, 2) := dk_21 4 (dk_at dksL_law_59 16 rfl rfl)
theorem dL_law_1559 : decode cL_law 1559 = .ok (.iconst 2, 1) := dk_5 (dk_at dksL_law_59 18 rfl rfl)
theorem dL_law_1560 : decode cL_law 1560 = .ok (.iadd, 1) := dk_96 (dk_at dksL_law_59 19 rfl rfl)
theorem dL_law_1561 : decode cL_law 1561 = .ok (.iaload, 1) := dk_46 (dk_at dksL_law_59 20 rfl rfl)
theorem dL_law_1562 : decode cL_law 1562 = .ok (.aload_n 3, 1) := dk_45 (dk_at dksL_law_59 21 rfl rfl)
theorem dL_law_1563 : decode cL_law 1563 = .ok (.invokestatic 223, 3) := dk_184 0 223 (dk_at dksL_law_60 0 rfl rfl)
theorem dL_law_1566 : decode cL_law 1566 = .ok (.istore 5, 2) := dk_54 5 (dk_at dksL_law_60 3 rfl rfl)
theorem dL_law_1568 : decode cL_law 1568 = .ok (.aload_n 2, 1) := dk_44 (dk_at dksL_law_60 5 rfl rfl)
theorem dL_law_1569 : decode cL_law 1569 = .ok (.aload_n 0, 1) := dk_42 (dk_at dksL_law_60 6 rfl rfl)
theorem dL_law_1570 : decode cL_law 1570 = .ok (.iload 4, 2) := dk_21 4 (dk_at dksL_law_60 7 rfl rfl)
theorem dL_law_1572 : decode cL_law 1572 = .ok (.iconst 1, 1) := dk_4 (dk_at dksL_law_60 9 rfl rfl)
theorem dL_law_1573 : decode cL_law 1573 = .ok (.iadd, 1) := dk_96 (dk_at dksL_law_60 10 rfl rfl)
theorem dL_law_1574 : decode cL_law 1574 = .ok (.iaload, 1) := dk_46 (dk_at dksL_law_60 11 rfl rfl)
theorem dL_law_1575 : decode cL_law 1575 = .ok (.aload_n 0, 1) := dk_42 (dk_at dksL_law_60 12 rfl rfl)
theorem dL_law_1576 : decode cL_law 1576 = .ok (.iload 4, 2) := dk_21 4 (dk_at dksL_law_60 13 rfl rfl)
theorem dL_law_1578 : decode cL_law 1578 = .ok (.iconst 2, 1) := dk_5 (dk_at dksL_law_60 15 rfl rfl)
theorem dL_law_1579 : decode cL_law 1579 = .ok (.iadd, 1) := dk_96 (dk_at dksL_law_60 16 rfl rfl)
theorem dL_law_1580 : decode cL_law 1580 = .ok (.iaload, 1) := dk_46 (dk_at dksL_law_60 17 rfl rfl)
theorem dL_law_1581 : decode cL_law 1581 = .ok (.invokevirtual 225, 3) := dk_182 0 225 (dk_at dksL_law_60 18 rfl rfl)
theorem dL_law_1584 : decode cL_law 1584 = .ok (.istore 6, 2) := dk_54 6 (dk_at dksL_law_60 21 rfl rfl)
theorem dL_law_1586 : decode cL_law 1586 = .ok (.aload_n 2, 1) := dk_44 (dk_at dksL_law_60 23 rfl rfl)
theorem dL_law_1587 : decode cL_law 1587 = .ok (.invokevirtual 167, 3) := dk_182 0 167 (dk_at dksL_law_61 0 rfl rfl)
theorem dL_law_1590 : decode cL_law 1590 = .ok (.iload 5, 2) := dk_21 5 (dk_at dksL_law_61 3 rfl rfl)
theorem dL_law_1592 : decode cL_law 1592 = .ok (.if_icmp .eq 5, 3) := dk_159 0 5 (dk_at dksL_law_61 5 rfl rfl)
theorem dL_law_1595 : decode cL_law 1595 = .ok (.iconst 0, 1) := dk_3 (dk_at dksL_law_61 8 rfl rfl)
theorem dL_law_1596 : decode cL_law 1596 = .ok (.ireturn, 1) := dk_172 (dk_at dksL_law_61 9 rfl rfl)
theorem dL_law_1597 : decode cL_law 1597 = .ok (.iload 5, 2) := dk_21 5 (dk_at dksL_law_61 10 rfl rfl)
theorem dL_law_1599 : decode cL_law 1599 = .ok (.ifCond .ne 15, 3) := dk_154 0 15 (dk_at dksL_law_61 12 rfl rfl)
theorem dL_law_1602 : decode cL_law 1602 = .ok (.aload_n 3, 1) := dk_45 (dk_at dksL_law_61 15 rfl rfl)
theorem dL_law_1603 : decode cL_law 1603 = .ok (.iconst 0, 1) := dk_3 (dk_at dksL_law_61 16 rfl rfl)
theorem dL_law_1604 : decode cL_law 1604 = .ok (.laload, 1) := dk_47 (dk_at dksL_law_61 17 rfl rfl)
theorem dL_law_1605 : decode cL_law 1605 = .ok (.iload 6, 2) := dk_21 6 (dk_at dksL_law_61 18 rfl rfl)
theorem dL_law_1607 : decode cL_law 1607 = .ok (.i2l, 1) := dk_133 (dk_at dksL_law_61 20 rfl rfl)
theorem dL_law_1608 : decode cL_law 1608 = .ok (.lcmp, 1) := dk_148 (dk_at dksL_law_61 21 rfl rfl)
theorem dL_law_1609 : decode cL_law 1609 = .ok (.ifCond .eq 5, 3) := dk_153 0 5 (dk_at dksL_law_62 0 rfl rfl)
theorem dL_law_1612 : decode cL_law 1612 = .ok (.iconst 0, 1) := dk_3 (dk_at dksL_law_62 3 rfl rfl)
theorem dL_law_1613 : decode cL_law 1613 = .ok (.ireturn, 1) := dk_172 (dk_at dksL_law_62 4 rfl rfl)
theorem dL_law_1614 : decode cL_law 1614 = .ok (.goto 1514, 3) := dk_167 5 234 (dk_at dksL_law_62 5 rfl rfl)
theorem dL_law_1617 : decode cL_law 1617 = .ok (.aload_n 1, 1) := dk_43 (dk_at dksL_law_62 8 rfl rfl)
theorem dL_law_1618 : decode cL_law 1618 = .ok (.aload_n 0, 1) := dk_42 (dk_at dksL_law_62 9 rfl rfl)
theorem dL_law_1619 : decode cL_law 1619 = .ok (.iload 4, 2) := dk_21 4 (dk_at dksL_law_62 10 rfl rfl)
theorem dL_law_1621 : decode cL_law 1621 = .ok (.iconst 1, 1) := dk_4 (dk_at dksL_law_62 12 rfl rfl)
theorem dL_law_1622 : decode cL_law 1622 = .ok (.iadd, 1) := dk_96 (dk_at dksL_law_62 13 rfl rfl)
theorem dL_law_1623 : decode cL_law 1623 = .ok (.iaload, 1) := dk_46 (dk_at dksL_law_62 14 rfl rfl)
theorem dL_law_1624 : decode cL_law 1624 = .ok (.aload_n 3, 1) := dk_45 (dk_at dksL_law_62 15 rfl rfl)
theorem dL_law_1625 : decode cL_law 1625 = .ok (.invokestatic 226, 3) := dk_184 0 226 (dk_at dksL_law_62 16 rfl rfl)
theorem dL_law_1628 : decode cL_law 1628 = .ok (.istore 5, 2) := dk_54 5 (dk_at dksL_law_62 19 rfl rfl)
theorem dL_law_1630 : decode cL_law 1630 = .ok (.aload_n 2, 1) := dk_44 (dk_at dksL_law_62 21 rfl rfl)
theorem dL_law_1631 : decode cL_law 1631 = .ok (.aload_n 0, 1) := dk_42 (dk_at dksL_law_62 22 rfl rfl)
theorem dL_law_1632 : decode cL_law 1632 = .ok (.iload 4, 2) := dk_21 4 (dk_at dksL_law_63 0 rfl rfl)
theorem dL_law_1634 : decode cL_law 1634 = .ok (.iconst 1, 1) := dk_4 (dk_at dksL_law_63 2 rfl rfl)
theorem dL_law_1635 : decode cL_law 1635 = .ok (.iadd, 1) := dk_96 (dk_at dksL_law_63 3 rfl rfl)
theorem dL_law_1636 : decode cL_law 1636 = .ok (.iaload, 1) := dk_46 (dk_at dksL_law_63 4 rfl rfl)
theorem dL_law_1637 : decode cL_law 1637 = .ok (.invokevirtual 228, 3) := dk_182 0 228 (dk_at dksL_law_63 5 rfl rfl)
theorem dL_law_1640 : decode cL_law 1640 = .ok (.istore 6, 2) := dk_54 6 (dk_at dksL_law_63 8 rfl rfl)
theorem dL_law_1642 : decode cL_law 1642 = .ok (.aload_n 2, 1) := dk_44 (dk_at dksL_law_63 10 rfl rfl)
theorem dL_law_1643 : decode cL_law 1643 = .ok (.invokevirtual 167, 3) := dk_182 0 167 (dk_at dksL_law_63 11 rfl rfl)
theorem dL_law_1646 : decode cL_law 1646 = .ok (.iload 5, 2) := dk_21 5 (dk_at dksL_law_63 14 rfl rfl)
theorem dL_law_1648 : decode cL_law 1648 = .ok (.if_icmp .eq 5, 3) := dk_159 0 5 (dk_at dksL_law_63 16 rfl rfl)
theorem dL_law_1651 : decode cL_law 1651 = .ok (.iconst 0, 1) := dk_3 (dk_at dksL_law_63 19 rfl rfl)
theorem dL_law_1652 : decode cL_law 1652 = .ok (.ireturn, 1) := dk_172 (dk_at dksL_law_63 20 rfl rfl)
theorem dL_law_1653 : decode cL_law 1653 = .ok (.iload 5, 2) := dk_21 5 (dk_at dksL_law_63 21 rfl rfl)
theorem dL_law_1655 : decode cL_law 1655 = .ok (.ifCond .ne 15, 3) := dk_154 0 15 (dk_at dksL_law_64 0 rfl rfl)
theorem dL_law_1658 : decode cL_law 1658 = .ok (.aload_n 3, 1) := dk_45 (dk_at dksL_law_64 3 rfl rfl)
theorem dL_law_1659 : decode cL_law 1659 = .ok (.iconst 0, 1) := dk_3 (dk_at dksL_law_64 4 rfl rfl)
theorem dL_law_1660 : decode cL_law 1660 = .ok (.laload, 1) := dk_47 (dk_at dksL_law_64 5 rfl rfl)
theorem dL_law_1661 : decode cL_law 1661 = .ok (.iload 6, 2) := dk_21 6 (dk_at dksL_law_64 6 rfl rfl)
theorem dL_law_1663 : decode cL_law 1663 = .ok (.i2l, 1) := dk_133 (dk_at dksL_law_64 8 rfl rfl)
theorem dL_law_1664 : decode cL_law 1664 = .ok (.lcmp, 1) := dk_148 (dk_at dksL_law_64 9 rfl rfl)
theorem dL_law_1665 : decode cL_law 1665 = .ok (.ifCond .eq 5, 3) := dk_153 0 5 (dk_at dksL_law_64 10 rfl rfl)
theorem dL_law_1668 : decode cL_law 1668 = .ok (.iconst 0, 1) := dk_3 (dk_at dksL_law_64 13 rfl rfl)
theorem dL_law_1669 : decode cL_law 1669 = .ok (.ireturn, 1) := dk_172 (dk_at dksL_law_64 14 rfl rfl)
theorem dL_law_1670 : decode cL_law 1670 = .ok (.goto 1458, 3) := dk_167 5 178 (dk_at dksL_law_64 15 rfl rfl)
theorem dL_law_1673 : decode cL_law 1673 = .ok (.aload_n 1, 1) := dk_43 (dk_at dksL_law_64 18 rfl rfl)
theorem dL_law_1674 : decode cL_law 1674 = .ok (.aload_n 0, 1) := dk_42 (dk_at dksL_law_64 19 rfl rfl)
theorem dL_law_1675 : decode cL_law 1675 = .ok (.iload 4, 2) := dk_21 4 (dk_at dksL_law_64 20 rfl rfl)
theorem dL_law_1677 : decode cL_law 1677 = .ok (.iconst 1, 1) := dk_4 (dk_at dksL_law_64 22 rfl rfl)
theorem dL_law_1678 : decode cL_law 1678 = .ok (.iadd, 1) := dk_96 (dk_at dksL_law_64 23 rfl rfl)
theorem dL_law_1679 : decode cL_law 1679 = .ok (.iaload, 1) := dk_46 (dk_at dksL_law_65 0 rfl rfl)
theorem dL_law_1680 : decode cL_law 1680 = .ok (.aload_n 0, 1) := dk_42 (dk_at dksL_law_65 1 rfl rfl)
theorem dL_law_1681 : decode cL_law 1681 = .ok (.iload 4, 2) := dk_21 4 (dk_at dksL_law_65 2 rfl rfl)
theorem dL_law_1683 : decode cL_law 1683 = .ok (.iconst 2, 1) := dk_5 (dk_at dksL_law_65 4 rfl rfl)
theorem dL_law_1684 : decode cL_law 1684 = .ok (.iadd, 1) := dk_96 (dk_at dksL_law_65 5 rfl rfl)
theorem dL_law_1685 : decode cL_law 1685 = .ok (.iaload, 1) := dk_46 (dk_at dksL_law_65 6 rfl rfl)
theorem dL_law_1686 : decode cL_law 1686 = .ok (.i2l, 1) := dk_133 (dk_at dksL_law_65 7 rfl rfl)
theorem dL_law_1687 : decode cL_law 1687 = .ok (.bipush 32, 2) := dk_16 32 (dk_at dksL_law_65 8 rfl rfl)
theorem dL_law_1689 : decode cL_law 1689 = .ok (.lshl, 1) := dk_121 (dk_at dksL_law_65 10 rfl rfl)
theorem dL_law_1690 : decode cL_law 1690 = .ok (.aload_n 0, 1) := dk_42 (dk_at dksL_law_65 11 rfl rfl)
theorem dL_law_1691 : decode cL_law 1691 = .ok (.iload 4, 2) := dk_21 4 (dk_at dksL_law_65 12 rfl rfl)
theorem dL_law_1693 : decode cL_law 1693 = .ok (.iconst 3, 1) := dk_6 (dk_at dksL_law_65 14 rfl rfl)
theorem dL_law_1694 : decode cL_law 1694 = .ok (.iadd, 1) := dk_96 (dk_at dksL_law_65 15 rfl rfl)
theorem dL_law_1695 : decode cL_law 1695 = .ok (.iaload, 1) := dk_46 (dk_at dksL_law_65 16 rfl rfl)
theorem dL_law_1696 : decode cL_law 1696 = .ok (.i2l, 1) := dk_133 (dk_at dksL_law_65 17 rfl rfl)
theorem dL_law_1697 : decode cL_law 1697 = .ok (.ldc2_w 229, 3) := dk_20 0 229 (dk_at dksL_law_65 18 rfl rfl)
theorem dL_law_1700 : decode cL_law 1700 = .ok (.land, 1) := dk_127 (dk_at dksL_law_65 21 rfl rfl)
theorem dL_law_1701 : decode cL_law 1701 = .ok (.lor, 1) := dk_129 (dk_at dksL_law_65 22 rfl rfl)
theorem dL_law_1702 : decode cL_law 1702 = .ok (.aload_n 3, 1) := dk_45 (dk_at dksL_law_65 23 rfl rfl)
theorem dL_law_1703 : decode cL_law 1703 = .ok (.invokestatic 231, 3) := dk_184 0 231 (dk_at dksL_law_66 0 rfl rfl)
theorem dL_law_1706 : decode cL_law 1706 = .ok (.istore 5, 2) := dk_54 5 (dk_at dksL_law_66 3 rfl rfl)
theorem dL_law_1708 : decode cL_law 1708 = .ok (.aload_n 2, 1) := dk_44 (dk_at dksL_law_66 5 rfl rfl)
theorem dL_law_1709 : decode cL_law 1709 = .ok (.aload_n 0, 1) := dk_42 (dk_at dksL_law_66 6 rfl rfl)
theorem dL_law_1710 : decode cL_law 1710 = .ok (.iload 4, 2) := dk_21 4 (dk_at dksL_law_66 7 rfl rfl)
theorem dL_law_1712 : decode cL_law 1712 = .ok (.iconst 1, 1) := dk_4 (dk_at dksL_law_66 9 rfl rfl)
theorem dL_law_1713 : decode cL_law 1713 = .ok (.iadd, 1) := dk_96 (dk_at dksL_law_66 10 rfl rfl)
theorem dL_law_1714 : decode cL_law 1714 = .ok (.iaload, 1) := dk_46 (dk_at dksL_law_66 11 rfl rfl)
theorem dL_law_1715 : decode cL_law 1715 = .ok (.aload_n 0, 1) := dk_42 (dk_at dksL_law_66 12 rfl rfl)
theorem dL_law_1716 : decode cL_law 1716 = .ok (.iload 4, 2) := dk_21 4 (dk_at dksL_law_66 13 rfl rfl)
theorem dL_law_1718 : decode cL_law 1718 = .ok (.iconst 2, 1) := dk_5 (dk_at dksL_law_66 15 rfl rfl)
theorem dL_law_1719 : decode cL_law 1719 = .ok (.iadd, 1) := dk_96 (dk_at dksL_law_66 16 rfl rfl)
theorem dL_law_1720 : decode cL_law 1720 = .ok (.iaload, 1) := dk_46 (dk_at dksL_law_66 17 rfl rfl)
theorem dL_law_1721 : decode cL_law 1721 = .ok (.i2l, 1) := dk_133 (dk_at dksL_law_66 18 rfl rfl)
theorem dL_law_1722 : decode cL_law 1722 = .ok (.bipush 32, 2) := dk_16 32 (dk_at dksL_law_66 19 rfl rfl)
theorem dL_law_1724 : decode cL_law 1724 = .ok (.lshl, 1) := dk_121 (dk_at dksL_law_66 21 rfl rfl)
theorem dL_law_1725 : decode cL_law 1725 = .ok (.aload_n 0, 1) := dk_42 (dk_at dksL_law_66 22 rfl rfl)
theorem dL_law_1726 : decode cL_law 1726 = .ok (.iload 4, 2) := dk_21 4 (dk_at dksL_law_67 0 rfl rfl)
theorem dL_law_1728 : decode cL_law 1728 = .ok (.iconst 3, 1) := dk_6 (dk_at dksL_law_67 2 rfl rfl)
theorem dL_law_1729 : decode cL_law 1729 = .ok (.iadd, 1) := dk_96 (dk_at dksL_law_67 3 rfl rfl)
theorem dL_law_1730 : decode cL_law 1730 = .ok (.iaload, 1) := dk_46 (dk_at dksL_law_67 4 rfl rfl)
theorem dL_law_1731 : decode cL_law 1731 = .ok (.i2l, 1) := dk_133 (dk_at dksL_law_67 5 rfl rfl)
theorem dL_law_1732 : decode cL_law 1732 = .ok (.ldc2_w 229, 3) := dk_20 0 229 (dk_at dksL_law_67 6 rfl rfl)
theorem dL_law_1735 : decode cL_law 1735 = .ok (.land, 1) := dk_127 (dk_at dksL_law_67 9 rfl rfl)
theorem dL_law_1736 : decode cL_law 1736 = .ok (.lor, 1) := dk_129 (dk_at dksL_law_67 10 rfl rfl)
theorem dL_law_1737 : decode cL_law 1737 = .ok (.invokevirtual 234, 3) := dk_182 0 234 (dk_at dksL_law_67 11 rfl rfl)
theorem dL_law_1740 : decode cL_law 1740 = .ok (.istore 6, 2) := dk_54 6 (dk_at dksL_law_67 14 rfl rfl)
theorem dL_law_1742 : decode cL_law 1742 = .ok (.aload_n 2, 1) := dk_44 (dk_at dksL_law_67 16 rfl rfl)
theorem dL_law_1743 : decode cL_law 1743 = .ok (.invokevirtual 167, 3) := dk_182 0 167 (dk_at dksL_law_67 17 rfl rfl)
theorem dL_law_1746 : decode cL_law 1746 = .ok (.iload 5, 2) := dk_21 5 (dk_at dksL_law_67 20 rfl rfl)
theorem dL_law_1748 : decode cL_law 1748 = .ok (.if_icmp .eq 5, 3) := dk_159 0 5 (dk_at dksL_law_68 0 rfl rfl)
theorem dL_law_1751 : decode cL_law 1751 = .ok (.iconst 0, 1) := dk_3 (dk_at dksL_law_68 3 rfl rfl)
theorem dL_law_1752 : decode cL_law 1752 = .ok (.ireturn, 1) := dk_172 (dk_at dksL_law_68 4 rfl rfl)
theorem dL_law_1753 : decode cL_law 1753 = .ok (.iload 5, 2) := dk_21 5 (dk_at dksL_law_68 5 rfl rfl)
theorem dL_law_1755 : decode cL_law 1755 = .ok (.ifCond .ne 15, 3) := dk_154 0 15 (dk_at dksL_law_68 7 rfl rfl)
theorem dL_law_1758 : decode cL_law 1758 = .ok (.aload_n 3, 1) := dk_45 (dk_at dksL_law_68 10 rfl rfl)
theorem dL_law_1759 : decode cL_law 1759 = .ok (.iconst 0, 1) := dk_3 (dk_at dksL_law_68 11 rfl rfl)
theorem dL_law_1760 : decode cL_law 1760 = .ok (.laload, 1) := dk_47 (dk_at dksL_law_68 12 rfl rfl)
theorem dL_law_1761 : decode cL_law 1761 = .ok (.iload 6, 2) := dk_21 6 (dk_at dksL_law_68 13 rfl rfl)
theorem dL_law_1763 : decode cL_law 1763 = .ok (.i2l, 1) := dk_133 (dk_at dksL_law_68 15 rfl rfl)
theorem dL_law_1764 : decode cL_law 1764 = .ok (.lcmp, 1) := dk_148 (dk_at dksL_law_68 16 rfl rfl)
theorem dL_law_1765 : decode cL_law 1765 = .ok (.ifCond .eq 5, 3) := dk_153 0 5 (dk_at dksL_law_68 17 rfl rfl)
theorem dL_law_1768 : decode cL_law 1768 = .ok (.iconst 0, 1) := dk_3 (dk_at dksL_law_68 20 rfl rfl)
theorem dL_law_1769 : decode cL_law 1769 = .ok (.ireturn, 1) := dk_172 (dk_at dksL_law_68 21 rfl rfl)
theorem dL_law_1770 : decode cL_law 1770 = .ok (.goto 1358, 3) := dk_167 5 78 (dk_at dksL_law_69 0 rfl rfl)
theorem dL_law_1773 : decode cL_law 1773 = .ok (.aload_n 1, 1) := dk_43 (dk_at dksL_law_69 3 rfl rfl)
theorem dL_law_1774 : decode cL_law 1774 = .ok (.aload_n 0, 1) := dk_42 (dk_at dksL_law_69 4 rfl rfl)
theorem dL_law_1775 : decode cL_law 1775 = .ok (.iload 4, 2) := dk_21 4 (dk_at dksL_law_69 5 rfl rfl)
theorem dL_law_1777 : decode cL_law 1777 = .ok (.iconst 1, 1) := dk_4 (dk_at dksL_law_69 7 rfl rfl)
theorem dL_law_1778 : decode cL_law 1778 = .ok (.iadd, 1) := dk_96 (dk_at dksL_law_69 8 rfl rfl)
theorem dL_law_1779 : decode cL_law 1779 = .ok (.iaload, 1) := dk_46 (dk_at dksL_law_69 9 rfl rfl)
theorem dL_law_1780 : decode cL_law 1780 = .ok (.aload_n 0, 1) := dk_42 (dk_at dksL_law_69 10 rfl rfl)
theorem dL_law_1781 : decode cL_law 1781 = .ok (.iload 4, 2) := dk_21 4 (dk_at dksL_law_69 11 rfl rfl)
theorem dL_law_1783 : decode cL_law 1783 = .ok (.iconst 2, 1) := dk_5 (dk_at dksL_law_69 13 rfl rfl)
theorem dL_law_1784 : decode cL_law 1784 = .ok (.iadd, 1) := dk_96 (dk_at dksL_law_69 14 rfl rfl)
theorem dL_law_1785 : decode cL_law 1785 = .ok (.iaload, 1) := dk_46 (dk_at dksL_law_69 15 rfl rfl)
theorem dL_law_1786 : decode cL_law 1786 = .ok (.aload_n 0, 1) := dk_42 (dk_at dksL_law_69 16 rfl rfl)
theorem dL_law_1787 : decode cL_law 1787 = .ok (.iload 4, 2) := dk_21 4 (dk_at dksL_law_69 17 rfl rfl)
theorem dL_law_1789 : decode cL_law 1789 = .ok (.iconst 3, 1) := dk_6 (dk_at dksL_law_69 19 rfl rfl)
theorem dL_law_1790 : decode cL_law 1790 = .ok (.iadd, 1) := dk_96 (dk_at dksL_law_69 20 rfl rfl)
theorem dL_law_1791 : decode cL_law 1791 = .ok (.iaload, 1) := dk_46 (dk_at dksL_law_69 21 rfl rfl)
theorem dL_law_1792 : decode cL_law 1792 = .ok (.aload_n 0, 1) := dk_42 (dk_at dksL_law_69 22 rfl rfl)
theorem dL_law_1793 : decode cL_law 1793 = .ok (.iload 4, 2) := dk_21 4 (dk_at dksL_law_70 0 rfl rfl)
theorem dL_law_1795 : decode cL_law 1795 = .ok (.iconst 4, 1) := dk_7 (dk_at dksL_law_70 2 rfl rfl)
theorem dL_law_1796 : decode cL_law 1796 = .ok (.iadd, 1) := dk_96 (dk_at dksL_law_70 3 rfl rfl)
theorem dL_law_1797 : decode cL_law 1797 = .ok (.iaload, 1) := dk_46 (dk_at dksL_law_70 4 rfl rfl)
theorem dL_law_1798 : decode cL_law 1798 = .ok (.aload_n 3, 1) := dk_45 (dk_at dksL_law_70 5 rfl rfl)
theorem dL_law_1799 : decode cL_law 1799 = .ok (.invokestatic 235, 3) := dk_184 0 235 (dk_at dksL_law_70 6 rfl rfl)
theorem dL_law_1802 : decode cL_law 1802 = .ok (.istore 5, 2) := dk_54 5 (dk_at dksL_law_70 9 rfl rfl)
theorem dL_law_1804 : decode cL_law 1804 = .ok (.aload_n 2, 1) := dk_44 (dk_at dksL_law_70 11 rfl rfl)
theorem dL_law_1805 : decode cL_law 1805 = .ok (.aload_n 0, 1) := dk_42 (dk_at dksL_law_70 12 rfl rfl)
theorem dL_law_1806 : decode cL_law 1806 = .ok (.iload 4, 2) := dk_21 4 (dk_at dksL_law_70 13 rfl rfl)
theorem dL_law_1808 : decode cL_law 1808 = .ok (.iconst 1, 1) := dk_4 (dk_at dksL_law_70 15 rfl rfl)
theorem dL_law_1809 : decode cL_law 1809 = .ok (.iadd, 1) := dk_96 (dk_at dksL_law_70 16 rfl rfl)
theorem dL_law_1810 : decode cL_law 1810 = .ok (.iaload, 1) := dk_46 (dk_at dksL_law_70 17 rfl rfl)
theorem dL_law_1811 : decode cL_law 1811 = .ok (.aload_n 0, 1) := dk_42 (dk_at dksL_law_70 18 rfl rfl)
theorem dL_law_1812 : decode cL_law 1812 = .ok (.iload 4, 2) := dk_21 4 (dk_at dksL_law_70 19 rfl rfl)
theorem dL_law_1814 : decode cL_law 1814 = .ok (.iconst 2, 1) := dk_5 (dk_at dksL_law_70 21 rfl rfl)
theorem dL_law_1815 : decode cL_law 1815 = .ok (.iadd, 1) := dk_96 (dk_at dksL_law_70 22 rfl rfl)
theorem dL_law_1816 : decode cL_law 1816 = .ok (.iaload, 1) := dk_46 (dk_at dksL_law_70 23 rfl rfl)
theorem dL_law_1817 : decode cL_law 1817 = .ok (.aload_n 0, 1) := dk_42 (dk_at dksL_law_71 0 rfl rfl)
theorem dL_law_1818 : decode cL_law 1818 = .ok (.iload 4, 2) := dk_21 4 (dk_at dksL_law_71 1 rfl rfl)
theorem dL_law_1820 : decode cL_law 1820 = .ok (.iconst 3, 1) := dk_6 (dk_at dksL_law_71 3 rfl rfl)
theorem dL_law_1821 : decode cL_law 1821 = .ok (.iadd, 1) := dk_96 (dk_at dksL_law_71 4 rfl rfl)
theorem dL_law_1822 : decode cL_law 1822 = .ok (.iaload, 1) := dk_46 (dk_at dksL_law_71 5 rfl rfl)
theorem dL_law_1823 : decode cL_law 1823 = .ok (.aload_n 0, 1) := dk_42 (dk_at dksL_law_71 6 rfl rfl)
theorem dL_law_1824 : decode cL_law 1824 = .ok (.iload 4, 2) := dk_21 4 (dk_at dksL_law_71 7 rfl rfl)
theorem dL_law_1826 : decode cL_law 1826 = .ok (.iconst 4, 1) := dk_7 (dk_at dksL_law_71 9 rfl rfl)
theorem dL_law_1827 : decode cL_law 1827 = .ok (.iadd, 1) := dk_96 (dk_at dksL_law_71 10 rfl rfl)
theorem dL_law_1828 : decode cL_law 1828 = .ok (.iaload, 1) := dk_46 (dk_at dksL_law_71 11 rfl rfl)
theorem dL_law_1829 : decode cL_law 1829 = .ok (.invokevirtual 237, 3) := dk_182 0 237 (dk_at dksL_law_71 12 rfl rfl)
theorem dL_law_1832 : decode cL_law 1832 = .ok (.istore 6, 2) := dk_54 6 (dk_at dksL_law_71 15 rfl rfl)
theorem dL_law_1834 : decode cL_law 1834 = .ok (.aload_n 2, 1) := dk_44 (dk_at dksL_law_71 17 rfl rfl)
theorem dL_law_1835 : decode cL_law 1835 = .ok (.invokevirtual 167, 3) := dk_182 0 167 (dk_at dksL_law_71 18 rfl rfl)
theorem dL_law_1838 : decode cL_law 1838 = .ok (.iload 5, 2) := dk_21 5 (dk_at dksL_law_71 21 rfl rfl)
theorem dL_law_1840 : decode cL_law 1840 = .ok (.if_icmp .eq 5, 3) := dk_159 0 5 (dk_at dksL_law_72 0 rfl rfl)
theorem dL_law_1843 : decode cL_law 1843 = .ok (.iconst 0, 1) := dk_3 (dk_at dksL_law_72 3 rfl rfl)
theorem dL_law_1844 : decode cL_law 1844 = .ok (.ireturn, 1) := dk_172 (dk_at dksL_law_72 4 rfl rfl)
theorem dL_law_1845 : decode cL_law 1845 = .ok (.iload 5, 2) := dk_21 5 (dk_at dksL_law_72 5 rfl rfl)
theorem dL_law_1847 : decode cL_law 1847 = .ok (.ifCond .ne 15, 3) := dk_154 0 15 (dk_at dksL_law_72 7 rfl rfl)
theorem dL_law_1850 : decode cL_law 1850 = .ok (.aload_n 3, 1) := dk_45 (dk_at dksL_law_72 10 rfl rfl)
theorem dL_law_1851 : decode cL_law 1851 = .ok (.iconst 0, 1) := dk_3 (dk_at dksL_law_72 11 rfl rfl)
theorem dL_law_1852 : decode cL_law 1852 = .ok (.laload, 1) := dk_47 (dk_at dksL_law_72 12 rfl rfl)
theorem dL_law_1853 : decode cL_law 1853 = .ok (.iload 6, 2) := dk_21 6 (dk_at dksL_law_72 13 rfl rfl)
theorem dL_law_1855 : decode cL_law 1855 = .ok (.i2l, 1) := dk_133 (dk_at dksL_law_72 15 rfl rfl)
theorem dL_law_1856 : decode cL_law 1856 = .ok (.lcmp, 1) := dk_148 (dk_at dksL_law_72 16 rfl rfl)
theorem dL_law_1857 : decode cL_law 1857 = .ok (.ifCond .eq 5, 3) := dk_153 0 5 (dk_at dksL_law_72 17 rfl rfl)
theorem dL_law_1860 : decode cL_law 1860 = .ok (.iconst 0, 1) := dk_3 (dk_at dksL_law_72 20 rfl rfl)
theorem dL_law_1861 : decode cL_law 1861 = .ok (.ireturn, 1) := dk_172 (dk_at dksL_law_72 21 rfl rfl)
theorem dL_law_1862 : decode cL_law 1862 = .ok (.goto 1266, 3) := dk_167 4 242 (dk_at dksL_law_73 0 rfl rfl)
theorem dL_law_1865 : decode cL_law 1865 = .ok (.aload_n 1, 1) := dk_43 (dk_at dksL_law_73 3 rfl rfl)
theorem dL_law_1866 : decode cL_law 1866 = .ok (.aload_n 0, 1) := dk_42 (dk_at dksL_law_73 4 rfl rfl)
theorem dL_law_1867 : decode cL_law 1867 = .ok (.iload 4, 2) := dk_21 4 (dk_at dksL_law_73 5 rfl rfl)
theorem dL_law_1869 : decode cL_law 1869 = .ok (.iconst 1, 1) := dk_4 (dk_at dksL_law_73 7 rfl rfl)
theorem dL_law_1870 : decode cL_law 1870 = .ok (.iadd, 1) := dk_96 (dk_at dksL_law_73 8 rfl rfl)
theorem dL_law_1871 : decode cL_law 1871 = .ok (.iaload, 1) := dk_46 (dk_at dksL_law_73 9 rfl rfl)
theorem dL_law_1872 : decode cL_law 1872 = .ok (.aload_n 0, 1) := dk_42 (dk_at dksL_law_73 10 rfl rfl)
theorem dL_law_1873 : decode cL_law 1873 = .ok (.iload 4, 2) := dk_21 4 (dk_at dksL_law_73 11 rfl rfl)
theorem dL_law_1875 : decode cL_law 1875 = .ok (.iconst 2, 1) := dk_5 (dk_at dksL_law_73 13 rfl rfl)
theorem dL_law_1876 : decode cL_law 1876 = .ok (.iadd, 1) := dk_96 (dk_at dksL_law_73 14 rfl rfl)
theorem dL_law_1877 : decode cL_law 1877 = .ok (.iaload, 1) := dk_46 (dk_at dksL_law_73 15 rfl rfl)
theorem dL_law_1878 : decode cL_law 1878 = .ok (.aload_n 0, 1) := dk_42 (dk_at dksL_law_73 16 rfl rfl)
theorem dL_law_1879 : decode cL_law 1879 = .ok (.iload 4, 2) := dk_21 4 (dk_at dksL_law_73 17 rfl rfl)
theorem dL_law_1881 : decode cL_law 1881 = .ok (.iconst 3, 1) := dk_6 (dk_at dksL_law_73 19 rfl rfl)
theorem dL_law_1882 : decode cL_law 1882 = .ok (.iadd, 1) := dk_96 (dk_at dksL_law_73 20 rfl rfl)
theorem dL_law_1883 : decode cL_law 1883 = .ok (.iaload, 1) := dk_46 (dk_at dksL_law_73 21 rfl rfl)
theorem dL_law_1884 : decode cL_law 1884 = .ok (.aload_n 0, 1) := dk_42 (dk_at dksL_law_73 22 rfl rfl)
theorem dL_law_1885 : decode cL_law 1885 = .ok (.iload 4, 2) := dk_21 4 (dk_at dksL_law_74 0 rfl rfl)
theorem dL_law_1887 : decode cL_law 1887 = .ok (.iconst 4, 1) := dk_7 (dk_at dksL_law_74 2 rfl rfl)
theorem dL_law_1888 : decode cL_law 1888 = .ok (.iadd, 1) := dk_96 (dk_at dksL_law_74 3 rfl rfl)
theorem dL_law_1889 : decode cL_law 1889 = .ok (.iaload, 1) := dk_46 (dk_at dksL_law_74 4 rfl rfl)
theorem dL_law_1890 : decode cL_law 1890 = .ok (.aload_n 0, 1) := dk_42 (dk_at dksL_law_74 5 rfl rfl)
theorem dL_law_1891 : decode cL_law 1891 = .ok (.iload 4, 2) := dk_21 4 (dk_at dksL_law_74 6 rfl rfl)
theorem dL_law_1893 : decode cL_law 1893 = .ok (.iconst 5, 1) := dk_8 (dk_at dksL_law_74 8 rfl rfl)
theorem dL_law_1894 : decode cL_law 1894 = .ok (.iadd, 1) := dk_96 (dk_at dksL_law_74 9 rfl rfl)
theorem dL_law_1895 : decode cL_law 1895 = .ok (.iaload, 1) := dk_46 (dk_at dksL_law_74 10 rfl rfl)
theorem dL_law_1896 : decode cL_law 1896 = .ok (.aload_n 3, 1) := dk_45 (dk_at dksL_law_74 11 rfl rfl)
theorem dL_law_1897 : decode cL_law 1897 = .ok (.invokestatic 238, 3) := dk_184 0 238 (dk_at dksL_law_74 12 rfl rfl)
theorem dL_law_1900 : decode cL_law 1900 = .ok (.istore 5, 2) := dk_54 5 (dk_at dksL_law_74 15 rfl rfl)
theorem dL_law_1902 : decode cL_law 1902 = .ok (.aload_n 2, 1) := dk_44 (dk_at dksL_law_74 17 rfl rfl)
theorem dL_law_1903 : decode cL_law 1903 = .ok (.aload_n 0, 1) := dk_42 (dk_at dksL_law_74 18 rfl rfl)
theorem dL_law_1904 : decode cL_law 1904 = .ok (.iload 4, 2) := dk_21 4 (dk_at dksL_law_74 19 rfl rfl)
theorem dL_law_1906 : decode cL_law 1906 = .ok (.iconst 1, 1) := dk_4 (dk_at dksL_law_74 21 rfl rfl)
theorem dL_law_1907 : decode cL_law 1907 = .ok (.iadd, 1) := dk_96 (dk_at dksL_law_74 22 rfl rfl)
theorem dL_law_1908 : decode cL_law 1908 = .ok (.iaload, 1) := dk_46 (dk_at dksL_law_74 23 rfl rfl)
theorem dL_law_1909 : decode cL_law 1909 = .ok (.aload_n 0, 1) := dk_42 (dk_at dksL_law_75 0 rfl rfl)
theorem dL_law_1910 : decode cL_law 1910 = .ok (.iload 4, 2) := dk_21 4 (dk_at dksL_law_75 1 rfl rfl)
theorem dL_law_1912 : decode cL_law 1912 = .ok (.iconst 2, 1) := dk_5 (dk_at dksL_law_75 3 rfl rfl)
theorem dL_law_1913 : decode cL_law 1913 = .ok (.iadd, 1) := dk_96 (dk_at dksL_law_75 4 rfl rfl)
theorem dL_law_1914 : decode cL_law 1914 = .ok (.iaload, 1) := dk_46 (dk_at dksL_law_75 5 rfl rfl)
theorem dL_law_1915 : decode cL_law 1915 = .ok (.aload_n 0, 1) := dk_42 (dk_at dksL_law_75 6 rfl rfl)
theorem dL_law_1916 : decode cL_law 1916 = .ok (.iload 4, 2) := dk_21 4 (dk_at dksL_law_75 7 rfl rfl)
theorem dL_law_1918 : decode cL_law 1918 = .ok (.iconst 3, 1) := dk_6 (dk_at dksL_law_75 9 rfl rfl)
theorem dL_law_1919 : decode cL_law 1919 = .ok (.iadd, 1) := dk_96 (dk_at dksL_law_75 10 rfl rfl)
theorem dL_law_1920 : decode cL_law 1920 = .ok (.iaload, 1) := dk_46 (dk_at dksL_law_75 11 rfl rfl)
theorem dL_law_1921 : decode cL_law 1921 = .ok (.aload_n 0, 1) := dk_42 (dk_at dksL_law_75 12 rfl rfl)
theorem dL_law_1922 : decode cL_law 1922 = .ok (.iload 4, 2) := dk_21 4 (dk_at dksL_law_75 13 rfl rfl)
theorem dL_law_1924 : decode cL_law 1924 = .ok (.iconst 4, 1) := dk_7 (dk_at dksL_law_75 15 rfl rfl)
theorem dL_law_1925 : decode cL_law 1925 = .ok (.iadd, 1) := dk_96 (dk_at dksL_law_75 16 rfl rfl)
theorem dL_law_1926 : decode cL_law 1926 = .ok (.iaload, 1) := dk_46 (dk_at dksL_law_75 17 rfl rfl)
theorem dL_law_1927 : decode cL_law 1927 = .ok (.aload_n 0, 1) := dk_42 (dk_at dksL_law_75 18 rfl rfl)
theorem dL_law_1928 : decode cL_law 1928 = .ok (.iload 4, 2) := dk_21 4 (dk_at dksL_law_75 19 rfl rfl)
theorem dL_law_1930 : decode cL_law 1930 = .ok (.iconst 5, 1) := dk_8 (dk_at dksL_law_75 21 rfl rfl)
theorem dL_law_1931 : decode cL_law 1931 = .ok (.iadd, 1) := dk_96 (dk_at dksL_law_75 22 rfl rfl)
theorem dL_law_1932 : decode cL_law 1932 = .ok (.iaload, 1) := dk_46 (dk_at dksL_law_75 23 rfl rfl)
theorem dL_law_1933 : decode cL_law 1933 = .ok (.invokevirtual 240, 3) := dk_182 0 240 (dk_at dksL_law_76 0 rfl rfl)
theorem dL_law_1936 : decode cL_law 1936 = .ok (.istore 6, 2) := dk_54 6 (dk_at dksL_law_76 3 rfl rfl)
theorem dL_law_1938 : decode cL_law 1938 = .ok (.aload_n 2, 1) := dk_44 (dk_at dksL_law_76 5 rfl rfl)
theorem dL_law_1939 : decode cL_law 1939 = .ok (.invokevirtual 167, 3) := dk_182 0 167 (dk_at dksL_law_76 6 rfl rfl)
theorem dL_law_1942 : decode cL_law 1942 = .ok (.iload 5, 2) := dk_21 5 (dk_at dksL_law_76 9 rfl rfl)
theorem dL_law_1944 : decode cL_law 1944 = .ok (.if_icmp .eq 5, 3) := dk_159 0 5 (dk_at dksL_law_76 11 rfl rfl)
theorem dL_law_1947 : decode cL_law 1947 = .ok (.iconst 0, 1) := dk_3 (dk_at dksL_law_76 14 rfl rfl)
theorem dL_law_1948 : decode cL_law 1948 = .ok (.ireturn, 1) := dk_172 (dk_at dksL_law_76 15 rfl rfl)
theorem dL_law_1949 : decode cL_law 1949 = .ok (.iload 5, 2) := dk_21 5 (dk_at dksL_law_76 16 rfl rfl)
theorem dL_law_1951 : decode cL_law 1951 = .ok (.ifCond .ne 15, 3) := dk_154 0 15 (dk_at dksL_law_76 18 rfl rfl)
theorem dL_law_1954 : decode cL_law 1954 = .ok (.aload_n 3, 1) := dk_45 (dk_at dksL_law_76 21 rfl rfl)
theorem dL_law_1955 : decode cL_law 1955 = .ok (.iconst 0, 1) := dk_3 (dk_at dksL_law_76 22 rfl rfl)
theorem dL_law_1956 : decode cL_law 1956 = .ok (.laload, 1) := dk_47 (dk_at dksL_law_76 23 rfl rfl)
theorem dL_law_1957 : decode cL_law 1957 = .ok (.iload 6, 2) := dk_21 6 (dk_at dksL_law_77 0 rfl rfl)
theorem dL_law_1959 : decode cL_law 1959 = .ok (.i2l, 1) := dk_133 (dk_at dksL_law_77 2 rfl rfl)
theorem dL_law_1960 : decode cL_law 1960 = .ok (.lcmp, 1) := dk_148 (dk_at dksL_law_77 3 rfl rfl)
theorem dL_law_1961 : decode cL_law 1961 = .ok (.ifCond .eq 5, 3) := dk_153 0 5 (dk_at dksL_law_77 4 rfl rfl)
theorem dL_law_1964 : decode cL_law 1964 = .ok (.iconst 0, 1) := dk_3 (dk_at dksL_law_77 7 rfl rfl)
theorem dL_law_1965 : decode cL_law 1965 = .ok (.ireturn, 1) := dk_172 (dk_at dksL_law_77 8 rfl rfl)
theorem dL_law_1966 : decode cL_law 1966 = .ok (.goto 1162, 3) := dk_167 4 138 (dk_at dksL_law_77 9 rfl rfl)
theorem dL_law_1969 : decode cL_law 1969 = .ok (.aload_n 1, 1) := dk_43 (dk_at dksL_law_77 12 rfl rfl)
theorem dL_law_1970 : decode cL_law 1970 = .ok (.aload_n 0, 1) := dk_42 (dk_at dksL_law_77 13 rfl rfl)
theorem dL_law_1971 : decode cL_law 1971 = .ok (.iload 4, 2) := dk_21 4 (dk_at dksL_law_77 14 rfl rfl)
theorem dL_law_1973 : decode cL_law 1973 = .ok (.iconst 1, 1) := dk_4 (dk_at dksL_law_77 16 rfl rfl)
theorem dL_law_1974 : decode cL_law 1974 = .ok (.iadd, 1) := dk_96 (dk_at dksL_law_77 17 rfl rfl)
theorem dL_law_1975 : decode cL_law 1975 = .ok (.iaload, 1) := dk_46 (dk_at dksL_law_77 18 rfl rfl)
theorem dL_law_1976 : decode cL_law 1976 = .ok (.aload_n 0, 1) := dk_42 (dk_at dksL_law_77 19 rfl rfl)
theorem dL_law_1977 : decode cL_law 1977 = .ok (.iload 4, 2) := dk_21 4 (dk_at dksL_law_77 20 rfl rfl)
theorem dL_law_1979 : decode cL_law 1979 = .ok (.iconst 2, 1) := dk_5 (dk_at dksL_law_77 22 rfl rfl)
theorem dL_law_1980 : decode cL_law 1980 = .ok (.iadd, 1) := dk_96 (dk_at dksL_law_77 23 rfl rfl)
theorem dL_law_1981 : decode cL_law 1981 = .ok (.iaload, 1) := dk_46 (dk_at dksL_law_78 0 rfl rfl)
theorem dL_law_1982 : decode cL_law 1982 = .ok (.aload_n 3, 1) := dk_45 (dk_at dksL_law_78 1 rfl rfl)
theorem dL_law_1983 : decode cL_law 1983 = .ok (.invokestatic 241, 3) := dk_184 0 241 (dk_at dksL_law_78 2 rfl rfl)
theorem dL_law_1986 : decode cL_law 1986 = .ok (.istore 5, 2) := dk_54 5 (dk_at dksL_law_78 5 rfl rfl)
theorem dL_law_1988 : decode cL_law 1988 = .ok (.aload_n 2, 1) := dk_44 (dk_at dksL_law_78 7 rfl rfl)
theorem dL_law_1989 : decode cL_law 1989 = .ok (.aload_n 0, 1) := dk_42 (dk_at dksL_law_78 8 rfl rfl)
theorem dL_law_1990 : decode cL_law 1990 = .ok (.iload 4, 2) := dk_21 4 (dk_at dksL_law_78 9 rfl rfl)
theorem dL_law_1992 : decode cL_law 1992 = .ok (.iconst 1, 1) := dk_4 (dk_at dksL_law_78 11 rfl rfl)
theorem dL_law_1993 : decode cL_law 1993 = .ok (.iadd, 1) := dk_96 (dk_at dksL_law_78 12 rfl rfl)
theorem dL_law_1994 : decode cL_law 1994 = .ok (.iaload, 1) := dk_46 (dk_at dksL_law_78 13 rfl rfl)
theorem dL_law_1995 : decode cL_law 1995 = .ok (.aload_n 0, 1) := dk_42 (dk_at dksL_law_78 14 rfl rfl)
theorem dL_law_1996 : decode cL_law 1996 = .ok (.iload 4, 2) := dk_21 4 (dk_at dksL_law_78 15 rfl rfl)
theorem dL_law_1998 : decode cL_law 1998 = .ok (.iconst 2, 1) := dk_5 (dk_at dksL_law_78 17 rfl rfl)
theorem dL_law_1999 : decode cL_law 1999 = .ok (.iadd, 1) := dk_96 (dk_at dksL_law_78 18 rfl rfl)
theorem dL_law_2000 : decode cL_law 2000 = .ok (.iaload, 1) := dk_46 (dk_at dksL_law_78 19 rfl rfl)
theorem dL_law_2001 : decode cL_law 2001 = .ok (.invokevirtual 243, 3) := dk_182 0 243 (dk_at dksL_law_78 20 rfl rfl)
theorem dL_law_2004 : decode cL_law 2004 = .ok (.lstore 6, 2) := dk_55 6 (dk_at dksL_law_79 0 rfl rfl)
theorem dL_law_2006 : decode cL_law 2006 = .ok (.aload_n 2, 1) := dk_44 (dk_at dksL_law_79 2 rfl rfl)
theorem dL_law_2007 : decode cL_law 2007 = .ok (.invokevirtual 167, 3) := dk_182 0 167 (dk_at dksL_law_79 3 rfl rfl)
theorem dL_law_2010 : decode cL_law 2010 = .ok (.iload 5, 2) := dk_21 5 (dk_at dksL_law_79 6 rfl rfl)
theorem dL_law_2012 : decode cL_law 2012 = .ok (.if_icmp .eq 5, 3) := dk_159 0 5 (dk_at dksL_law_79 8 rfl rfl)
theorem dL_law_2015 : decode cL_law 2015 = .ok (.iconst 0, 1) := dk_3 (dk_at dksL_law_79 11 rfl rfl)
theorem dL_law_2016 : decode cL_law 2016 = .ok (.ireturn, 1) := dk_172 (dk_at dksL_law_79 12 rfl rfl)
theorem dL_law_2017 : decode cL_law 2017 = .ok (.iload 5, 2) := dk_21 5 (dk_at dksL_law_79 13 rfl rfl)
theorem dL_law_2019 : decode cL_law 2019 = .ok (.ifCond .ne 14, 3) := dk_154 0 14 (dk_at dksL_law_79 15 rfl rfl)
theorem dL_law_2022 : decode cL_law 2022 = .ok (.aload_n 3, 1) := dk_45 (dk_at dksL_law_79 18 rfl rfl)
theorem dL_law_2023 : decode cL_law 2023 = .ok (.iconst 0, 1) := dk_3 (dk_at dksL_law_79 19 rfl rfl)
theorem dL_law_2024 : decode cL_law 2024 = .ok (.laload, 1) := dk_47 (dk_at dksL_law_79 20 rfl rfl)
theorem dL_law_2025 : decode cL_law 2025 = .ok (.lload 6, 2) := dk_22 6 (dk_at dksL_law_79 21 rfl rfl)
theorem dL_law_2027 : decode cL_law 2027 = .ok (.lcmp, 1) := dk_148 (dk_at dksL_law_79 23 rfl rfl)
theorem dL_law_2028 : decode cL_law 2028 = .ok (.ifCond .eq 5, 3) := dk_153 0 5 (dk_at dksL_law_80 0 rfl rfl)
theorem dL_law_2031 : decode cL_law 2031 = .ok (.iconst 0, 1) := dk_3 (dk_at dksL_law_80 3 rfl rfl)
theorem dL_law_2032 : decode cL_law 2032 = .ok (.ireturn, 1) := dk_172 (dk_at dksL_law_80 4 rfl rfl)
theorem dL_law_2033 : decode cL_law 2033 = .ok (.goto 1095, 3) := dk_167 4 71 (dk_at dksL_law_80 5 rfl rfl)
theorem dL_law_2036 : decode cL_law 2036 = .ok (.aload_n 1, 1) := dk_43 (dk_at dksL_law_80 8 rfl rfl)
theorem dL_law_2037 : decode cL_law 2037 = .ok (.aload_n 0, 1) := dk_42 (dk_at dksL_law_80 9 rfl rfl)
theorem dL_law_2038 : decode cL_law 2038 = .ok (.iload 4, 2) := dk_21 4 (dk_at dksL_law_80 10 rfl rfl)
theorem dL_law_2040 : decode cL_law 2040 = .ok (.iconst 1, 1) := dk_4 (dk_at dksL_law_80 12 rfl rfl)
theorem dL_law_2041 : decode cL_law 2041 = .ok (.iadd, 1) := dk_96 (dk_at dksL_law_80 13 rfl rfl)
theorem dL_law_2042 : decode cL_law 2042 = .ok (.iaload, 1) := dk_46 (dk_at dksL_law_80 14 rfl rfl)
theorem dL_law_2043 : decode cL_law 2043 = .ok (.aload_n 0, 1) := dk_42 (dk_at dksL_law_80 15 rfl rfl)
theorem dL_law_2044 : decode cL_law 2044 = .ok (.iload 4, 2) := dk_21 4 (dk_at dksL_law_80 16 rfl rfl)
theorem dL_law_2046 : decode cL_law 2046 = .ok (.iconst 2, 1) := dk_5 (dk_at dksL_law_80 18 rfl rfl)
theorem dL_law_2047 : decode cL_law 2047 = .ok (.iadd, 1) := dk_96 (dk_at dksL_law_80 19 rfl rfl)
theorem dL_law_2048 : decode cL_law 2048 = .ok (.iaload, 1) := dk_46 (dk_at dksL_law_80 20 rfl rfl)
theorem dL_law_2049 : decode cL_law 2049 = .ok (.aload_n 3, 1) := dk_45 (dk_at dksL_law_80 21 rfl rfl)
theorem dL_law_2050 : decode cL_law 2050 = .ok (.invokestatic 244, 3) := dk_184 0 244 (dk_at dksL_law_81 0 rfl rfl)
theorem dL_law_2053 : decode cL_law 2053 = .ok (.istore 5, 2) := dk_54 5 (dk_at dksL_law_81 3 rfl rfl)
theorem dL_law_2055 : decode cL_law 2055 = .ok (.aload_n 2, 1) := dk_44 (dk_at dksL_law_81 5 rfl rfl)
theorem dL_law_2056 : decode cL_law 2056 = .ok (.aload_n 0, 1) := dk_42 (dk_at dksL_law_81 6 rfl rfl)
theorem dL_law_2057 : decode cL_law 2057 = .ok (.iload 4, 2) := dk_21 4 (dk_at dksL_law_81 7 rfl rfl)
theorem dL_law_2059 : decode cL_law 2059 = .ok (.iconst 1, 1) := dk_4 (dk_at dksL_law_81 9 rfl rfl)
theorem dL_law_2060 : decode cL_law 2060 = .ok (.iadd, 1) := dk_96 (dk_at dksL_law_81 10 rfl rfl)
theorem dL_law_2061 : decode cL_law 2061 = .ok (.iaload, 1) := dk_46 (dk_at dksL_law_81 11 rfl rfl)
theorem dL_law_2062 : decode cL_law 2062 = .ok (.aload_n 0, 1) := dk_42 (dk_at dksL_law_81 12 rfl rfl)
theorem dL_law_2063 : decode cL_law 2063 = .ok (.iload 4, 2) := dk_21 4 (dk_at dksL_law_81 13 rfl rfl)
theorem dL_law_2065 : decode cL_law 2065 = .ok (.iconst 2, 1) := dk_5 (dk_at dksL_law_81 15 rfl rfl)
theorem dL_law_2066 : decode cL_law 2066 = .ok (.iadd, 1) := dk_96 (dk_at dksL_law_81 16 rfl rfl)
theorem dL_law_2067 : decode cL_law 2067 = .ok (.iaload, 1) := dk_46 (dk_at dksL_law_81 17 rfl rfl)
theorem dL_law_2068 : decode cL_law 2068 = .ok (.invokevirtual 246, 3) := dk_182 0 246 (dk_at dksL_law_81 18 rfl rfl)
theorem dL_law_2071 : decode cL_law 2071 = .ok (.istore 6, 2) := dk_54 6 (dk_at dksL_law_81 21 rfl rfl)
theorem dL_law_2073 : decode cL_law 2073 = .ok (.aload_n 2, 1) := dk_44 (dk_at dksL_law_81 23 rfl rfl)
theorem dL_law_2074 : decode cL_law 2074 = .ok (.invokevirtual 167, 3) := dk_182 0 167 (dk_at dksL_law_82 0 rfl rfl)
theorem dL_law_2077 : decode cL_law 2077 = .ok (.iload 5, 2) := dk_21 5 (dk_at dksL_law_82 3 rfl rfl)
theorem dL_law_2079 : decode cL_law 2079 = .ok (.if_icmp .eq 5, 3) := dk_159 0 5 (dk_at dksL_law_82 5 rfl rfl)
theorem dL_law_2082 : decode cL_law 2082 = .ok (.iconst 0, 1) := dk_3 (dk_at dksL_law_82 8 rfl rfl)
theorem dL_law_2083 : decode cL_law 2083 = .ok (.ireturn, 1) := dk_172 (dk_at dksL_law_82 9 rfl rfl)
theorem dL_law_2084 : decode cL_law 2084 = .ok (.iload 5, 2) := dk_21 5 (dk_at dksL_law_82 10 rfl rfl)
theorem dL_law_2086 : decode cL_law 2086 = .ok (.ifCond .ne 15, 3) := dk_154 0 15 (dk_at dksL_law_82 12 rfl rfl)
theorem dL_law_2089 : decode cL_law 2089 = .ok (.aload_n 3, 1) := dk_45 (dk_at dksL_law_82 15 rfl rfl)
theorem dL_law_2090 : decode cL_law 2090 = .ok (.iconst 0, 1) := dk_3 (dk_at dksL_law_82 16 rfl rfl)
theorem dL_law_2091 : decode cL_law 2091 = .ok (.laload, 1) := dk_47 (dk_at dksL_law_82 17 rfl rfl)
theorem dL_law_2092 : decode cL_law 2092 = .ok (.iload 6, 2) := dk_21 6 (dk_at dksL_law_82 18 rfl rfl)
theorem dL_law_2094 : decode cL_law 2094 = .ok (.i2l, 1) := dk_133 (dk_at dksL_law_82 20 rfl rfl)
theorem dL_law_2095 : decode cL_law 2095 = .ok (.lcmp, 1) := dk_148 (dk_at dksL_law_82 21 rfl rfl)
theorem dL_law_2096 : decode cL_law 2096 = .ok (.ifCond .eq 5, 3) := dk_153 0 5 (dk_at dksL_law_83 0 rfl rfl)
theorem dL_law_2099 : decode cL_law 2099 = .ok (.iconst 0, 1) := dk_3 (dk_at dksL_law_83 3 rfl rfl)
theorem dL_law_2100 : decode cL_law 2100 = .ok (.ireturn, 1) := dk_172 (dk_at dksL_law_83 4 rfl rfl)
theorem dL_law_2101 : decode cL_law 2101 = .ok (.goto 1027, 3) := dk_167 4 3 (dk_at dksL_law_83 5 rfl rfl)
theorem dL_law_2104 : decode cL_law 2104 = .ok (.aload_n 1, 1) := dk_43 (dk_at dksL_law_83 8 rfl rfl)
theorem dL_law_2105 : decode cL_law 2105 = .ok (.aload_n 0, 1) := dk_42 (dk_at dksL_law_83 9 rfl rfl)
theorem dL_law_2106 : decode cL_law 2106 = .ok (.iload 4, 2) := dk_21 4 (dk_at dksL_law_83 10 rfl rfl)
theorem dL_law_2108 : decode cL_law 2108 = .ok (.iconst 1, 1) := dk_4 (dk_at dksL_law_83 12 rfl rfl)
theorem dL_law_2109 : decode cL_law 2109 = .ok (.iadd, 1) := dk_96 (dk_at dksL_law_83 13 rfl rfl)
theorem dL_law_2110 : decode cL_law 2110 = .ok (.iaload, 1) := dk_46 (dk_at dksL_law_83 14 rfl rfl)
theorem dL_law_2111 : decode cL_law 2111 = .ok (.aload_n 0, 1) := dk_42 (dk_at dksL_law_83 15 rfl rfl)
theorem dL_law_2112 : decode cL_law 2112 = .ok (.iload 4, 2) := dk_21 4 (dk_at dksL_law_83 16 rfl rfl)
theorem dL_law_2114 : decode cL_law 2114 = .ok (.iconst 2, 1) := dk_5 (dk_at dksL_law_83 18 rfl rfl)
theorem dL_law_2115 : decode cL_law 2115 = .ok (.iadd, 1) := dk_96 (dk_at dksL_law_83 19 rfl rfl)
theorem dL_law_2116 : decode cL_law 2116 = .ok (.iaload, 1) := dk_46 (dk_at dksL_law_83 20 rfl rfl)
theorem dL_law_2117 : decode cL_law 2117 = .ok (.aload_n 3, 1) := dk_45 (dk_at dksL_law_83 21 rfl rfl)
theorem dL_law_2118 : decode cL_law 2118 = .ok (.invokestatic 247, 3) := dk_184 0 247 (dk_at dksL_law_84 0 rfl rfl)
theorem dL_law_2121 : decode cL_law 2121 = .ok (.istore 5, 2) := dk_54 5 (dk_at dksL_law_84 3 rfl rfl)
theorem dL_law_2123 : decode cL_law 2123 = .ok (.aload_n 2, 1) := dk_44 (dk_at dksL_law_84 5 rfl rfl)
theorem dL_law_2124 : decode cL_law 2124 = .ok (.aload_n 0, 1) := dk_42 (dk_at dksL_law_84 6 rfl rfl)
theorem dL_law_2125 : decode cL_law 2125 = .ok (.iload 4, 2) := dk_21 4 (dk_at dksL_law_84 7 rfl rfl)
theorem dL_law_2127 : decode cL_law 2127 = .ok (.iconst 1, 1) := dk_4 (dk_at dksL_law_84 9 rfl rfl)
theorem dL_law_2128 : decode cL_law 2128 = .ok (.iadd, 1) := dk_96 (dk_at dksL_law_84 10 rfl rfl)
theorem dL_law_2129 : decode cL_law 2129 = .ok (.iaload, 1) := dk_46 (dk_at dksL_law_84 11 rfl rfl)
theorem dL_law_2130 : decode cL_law 2130 = .ok (.aload_n 0, 1) := dk_42 (dk_at dksL_law_84 12 rfl rfl)
theorem dL_law_2131 : decode cL_law 2131 = .ok (.iload 4, 2) := dk_21 4 (dk_at dksL_law_84 13 rfl rfl)
theorem dL_law_2133 : decode cL_law 2133 = .ok (.iconst 2, 1) := dk_5 (dk_at dksL_law_84 15 rfl rfl)
theorem dL_law_2134 : decode cL_law 2134 = .ok (.iadd, 1) := dk_96 (dk_at dksL_law_84 16 rfl rfl)
theorem dL_law_2135 : decode cL_law 2135 = .ok (.iaload, 1) := dk_46 (dk_at dksL_law_84 17 rfl rfl)
theorem dL_law_2136 : decode cL_law 2136 = .ok (.invokevirtual 249, 3) := dk_182 0 249 (dk_at dksL_law_84 18 rfl rfl)
theorem dL_law_2139 : decode cL_law 2139 = .ok (.istore 6, 2) := dk_54 6 (dk_at dksL_law_84 21 rfl rfl)
theorem dL_law_2141 : decode cL_law 2141 = .ok (.aload_n 2, 1) := dk_44 (dk_at dksL_law_84 23 rfl rfl)
theorem dL_law_2142 : decode cL_law 2142 = .ok (.invokevirtual 167, 3) := dk_182 0 167 (dk_at dksL_law_85 0 rfl rfl)
theorem dL_law_2145 : decode cL_law 2145 = .ok (.iload 5, 2) := dk_21 5 (dk_at dksL_law_85 3 rfl rfl)
theorem dL_law_2147 : decode cL_law 2147 = .ok (.if_icmp .eq 5, 3) := dk_159 0 5 (dk_at dksL_law_85 5 rfl rfl)
theorem dL_law_2150 : decode cL_law 2150 = .ok (.iconst 0, 1) := dk_3 (dk_at dksL_law_85 8 rfl rfl)
theorem dL_law_2151 : decode cL_law 2151 = .ok (.ireturn, 1) := dk_172 (dk_at dksL_law_85 9 rfl rfl)
theorem dL_law_2152 : decode cL_law 2152 = .ok (.iload 5, 2) := dk_21 5 (dk_at dksL_law_85 10 rfl rfl)
theorem dL_law_2154 : decode cL_law 2154 = .ok (.ifCond .ne 15, 3) := dk_154 0 15 (dk_at dksL_law_85 12 rfl rfl)
theorem dL_law_2157 : decode cL_law 2157 = .ok (.aload_n 3, 1) := dk_45 (dk_at dksL_law_85 15 rfl rfl)
theorem dL_law_2158 : decode cL_law 2158 = .ok (.iconst 0, 1) := dk_3 (dk_at dksL_law_85 16 rfl rfl)
theorem dL_law_2159 : decode cL_law 2159 = .ok (.laload, 1) := dk_47 (dk_at dksL_law_85 17 rfl rfl)
theorem dL_law_2160 : decode cL_law 2160 = .ok (.iload 6, 2) := dk_21 6 (dk_at dksL_law_85 18 rfl rfl)
theorem dL_law_2162 : decode cL_law 2162 = .ok (.i2l, 1) := dk_133 (dk_at dksL_law_85 20 rfl rfl)
theorem dL_law_2163 : decode cL_law 2163 = .ok (.lcmp, 1) := dk_148 (dk_at dksL_law_85 21 rfl rfl)
theorem dL_law_2164 : decode cL_law 2164 = .ok (.ifCond .eq 5, 3) := dk_153 0 5 (dk_at dksL_law_86 0 rfl rfl)
theorem dL_law_2167 : decode cL_law 2167 = .ok (.iconst 0, 1) := dk_3 (dk_at dksL_law_86 3 rfl rfl)
theorem dL_law_2168 : decode cL_law 2168 = .ok (.ireturn, 1) := dk_172 (dk_at dksL_law_86 4 rfl rfl)
theorem dL_law_2169 : decode cL_law 2169 = .ok (.goto 959, 3) := dk_167 3 191 (dk_at dksL_law_86 5 rfl rfl)
theorem dL_law_2172 : decode cL_law 2172 = .ok (.aload_n 1, 1) := dk_43 (dk_at dksL_law_86 8 rfl rfl)
theorem dL_law_2173 : decode cL_law 2173 = .ok (.aload_n 0, 1) := dk_42 (dk_at dksL_law_86 9 rfl rfl)
theorem dL_law_2174 : decode cL_law 2174 = .ok (.iload 4, 2) := dk_21 4 (dk_at dksL_law_86 10 rfl rfl)
theorem dL_law_2176 : decode cL_law 2176 = .ok (.iconst 1, 1) := dk_4 (dk_at dksL_law_86 12 rfl rfl)
theorem dL_law_2177 : decode cL_law 2177 = .ok (.iadd, 1) := dk_96 (dk_at dksL_law_86 13 rfl rfl)
theorem dL_law_2178 : decode cL_law 2178 = .ok (.iaload, 1) := dk_46 (dk_at dksL_law_86 14 rfl rfl)
theorem dL_law_2179 : decode cL_law 2179 = .ok (.aload_n 0, 1) := dk_42 (dk_at dksL_law_86 15 rfl rfl)
theorem dL_law_2180 : decode cL_law 2180 = .ok (.iload 4, 2) := dk_21 4 (dk_at dksL_law_86 16 rfl rfl)
theorem dL_law_2182 : decode cL_law 2182 = .ok (.iconst 2, 1) := dk_5 (dk_at dksL_law_86 18 rfl rfl)
theorem dL_law_2183 : decode cL_law 2183 = .ok (.iadd, 1) := dk_96 (dk_at dksL_law_86 19 rfl rfl)
theorem dL_law_2184 : decode cL_law 2184 = .ok (.iaload, 1) := dk_46 (dk_at dksL_law_86 20 rfl rfl)
theorem dL_law_2185 : decode cL_law 2185 = .ok (.aload_n 3, 1) := dk_45 (dk_at dksL_law_86 21 rfl rfl)
theorem dL_law_2186 : decode cL_law 2186 = .ok (.invokestatic 250, 3) := dk_184 0 250 (dk_at dksL_law_87 0 rfl rfl)
theorem dL_law_2189 : decode cL_law 2189 = .ok (.istore 5, 2) := dk_54 5 (dk_at dksL_law_87 3 rfl rfl)
theorem dL_law_2191 : decode cL_law 2191 = .ok (.aload_n 2, 1) := dk_44 (dk_at dksL_law_87 5 rfl rfl)
theorem dL_law_2192 : decode cL_law 2192 = .ok (.aload_n 0, 1) := dk_42 (dk_at dksL_law_87 6 rfl rfl)
theorem dL_law_2193 : decode cL_law 2193 = .ok (.iload 4, 2) := dk_21 4 (dk_at dksL_law_87 7 rfl rfl)
theorem dL_law_2195 : decode cL_law 2195 = .ok (.iconst 1, 1) := dk_4 (dk_at dksL_law_87 9 rfl rfl)
theorem dL_law_2196 : decode cL_law 2196 = .ok (.iadd, 1) := dk_96 (dk_at dksL_law_87 10 rfl rfl)
theorem dL_law_2197 : decode cL_law 2197 = .ok (.iaload, 1) := dk_46 (dk_at dksL_law_87 11 rfl rfl)
theorem dL_law_2198 : decode cL_law 2198 = .ok (.aload_n 0, 1) := dk_42 (dk_at dksL_law_87 12 rfl rfl)
theorem dL_law_2199 : decode cL_law 2199 = .ok (.iload 4, 2) := dk_21 4 (dk_at dksL_law_87 13 rfl rfl)
theorem dL_law_2201 : decode cL_law 2201 = .ok (.iconst 2, 1) := dk_5 (dk_at dksL_law_87 15 rfl rfl)
theorem dL_law_2202 : decode cL_law 2202 = .ok (.iadd, 1) := dk_96 (dk_at dksL_law_87 16 rfl rfl)
theorem dL_law_2203 : decode cL_law 2203 = .ok (.iaload, 1) := dk_46 (dk_at dksL_law_87 17 rfl rfl)
theorem dL_law_2204 : decode cL_law 2204 = .ok (.invokevirtual 252, 3) := dk_182 0 252 (dk_at dksL_law_87 18 rfl rfl)
theorem dL_law_2207 : decode cL_law 2207 = .ok (.istore 6, 2) := dk_54 6 (dk_at dksL_law_87 21 rfl rfl)
theorem dL_law_2209 : decode cL_law 2209 = .ok (.aload_n 2, 1) := dk_44 (dk_at dksL_law_87 23 rfl rfl)
theorem dL_law_2210 : decode cL_law 2210 = .ok (.invokevirtual 167, 3) := dk_182 0 167 (dk_at dksL_law_88 0 rfl rfl)
theorem dL_law_2213 : decode cL_law 2213 = .ok (.iload 5, 2) := dk_21 5 (dk_at dksL_law_88 3 rfl rfl)
theorem dL_law_2215 : decode cL_law 2215 = .ok (.if_icmp .eq 5, 3) := dk_159 0 5 (dk_at dksL_law_88 5 rfl rfl)
theorem dL_law_2218 : decode cL_law 2218 = .ok (.iconst 0, 1) := dk_3 (dk_at dksL_law_88 8 rfl rfl)
theorem dL_law_2219 : decode cL_law 2219 = .ok (.ireturn, 1) := dk_172 (dk_at dksL_law_88 9 rfl rfl)
theorem dL_law_2220 : decode cL_law 2220 = .ok (.iload 5, 2) := dk_21 5 (dk_at dksL_law_88 10 rfl rfl)
theorem dL_law_2222 : decode cL_law 2222 = .ok (.ifCond .ne 15, 3) := dk_154 0 15 (dk_at dksL_law_88 12 rfl rfl)
theorem dL_law_2225 : decode cL_law 2225 = .ok (.aload_n 3, 1) := dk_45 (dk_at dksL_law_88 15 rfl rfl)
theorem dL_law_2226 : decode cL_law 2226 = .ok (.iconst 0, 1) := dk_3 (dk_at dksL_law_88 16 rfl rfl)
theorem dL_law_2227 : decode cL_law 2227 = .ok (.laload, 1) := dk_47 (dk_at dksL_law_88 17 rfl rfl)
theorem dL_law_2228 : decode cL_law 2228 = .ok (.iload 6, 2) := dk_21 6 (dk_at dksL_law_88 18 rfl rfl)
theorem dL_law_2230 : decode cL_law 2230 = .ok (.i2l, 1) := dk_133 (dk_at dksL_law_88 20 rfl rfl)
theorem dL_law_2231 : decode cL_law 2231 = .ok (.lcmp, 1) := dk_148 (dk_at dksL_law_88 21 rfl rfl)
theorem dL_law_2232 : decode cL_law 2232 = .ok (.ifCond .eq 5, 3) := dk_153 0 5 (dk_at dksL_law_89 0 rfl rfl)
theorem dL_law_2235 : decode cL_law 2235 = .ok (.iconst 0, 1) := dk_3 (dk_at dksL_law_89 3 rfl rfl)
theorem dL_law_2236 : decode cL_law 2236 = .ok (.ireturn, 1) := dk_172 (dk_at dksL_law_89 4 rfl rfl)
theorem dL_law_2237 : decode cL_law 2237 = .ok (.goto 891, 3) := dk_167 3 123 (dk_at dksL_law_89 5 rfl rfl)
theorem dL_law_2240 : decode cL_law 2240 = .ok (.aload_n 1, 1) := dk_43 (dk_at dksL_law_89 8 rfl rfl)
theorem dL_law_2241 : decode cL_law 2241 = .ok (.aload_n 3, 1) := dk_45 (dk_at dksL_law_89 9 rfl rfl)
theorem dL_law_2242 : decode cL_law 2242 = .ok (.invokestatic 253, 3) := dk_184 0 253 (dk_at dksL_law_89 10 rfl rfl)
theorem dL_law_2245 : decode cL_law 2245 = .ok (.istore 5, 2) := dk_54 5 (dk_at dksL_law_89 13 rfl rfl)
theorem dL_law_2247 : decode cL_law 2247 = .ok (.aload_n 2, 1) := dk_44 (dk_at dksL_law_89 15 rfl rfl)
theorem dL_law_2248 : decode cL_law 2248 = .ok (.invokevirtual 255, 3) := dk_182 0 255 (dk_at dksL_law_89 16 rfl rfl)
theorem dL_law_2251 : decode cL_law 2251 = .ok (.lstore 6, 2) := dk_55 6 (dk_at dksL_law_89 19 rfl rfl)
theorem dL_law_2253 : decode cL_law 2253 = .ok (.aload_n 2, 1) := dk_44 (dk_at dksL_law_89 21 rfl rfl)
theorem dL_law_2254 : decode cL_law 2254 = .ok (.invokevirtual 167, 3) := dk_182 0 167 (dk_at dksL_law_90 0 rfl rfl)
theorem dL_law_2257 : decode cL_law 2257 = .ok (.iload 5, 2) := dk_21 5 (dk_at dksL_law_90 3 rfl rfl)
theorem dL_law_2259 : decode cL_law 2259 = .ok (.if_icmp .eq 5, 3) := dk_159 0 5 (dk_at dksL_law_90 5 rfl rfl)
theorem dL_law_2262 : decode cL_law 2262 = .ok (.iconst 0, 1) := dk_3 (dk_at dksL_law_90 8 rfl rfl)
theorem dL_law_2263 : decode cL_law 2263 = .ok (.ireturn, 1) := dk_172 (dk_at dksL_law_90 9 rfl rfl)
theorem dL_law_2264 : decode cL_law 2264 = .ok (.iload 5, 2) := dk_21 5 (dk_at dksL_law_90 10 rfl rfl)
theorem dL_law_2266 : decode cL_law 2266 = .ok (.ifCond .ne 14, 3) := dk_154 0 14 (dk_at dksL_law_90 12 rfl rfl)
theorem dL_law_2269 : decode cL_law 2269 = .ok (.aload_n 3, 1) := dk_45 (dk_at dksL_law_90 15 rfl rfl)
theorem dL_law_2270 : decode cL_law 2270 = .ok (.iconst 0, 1) := dk_3 (dk_at dksL_law_90 16 rfl rfl)
theorem dL_law_2271 : decode cL_law 2271 = .ok (.laload, 1) := dk_47 (dk_at dksL_law_90 17 rfl rfl)
theorem dL_law_2272 : decode cL_law 2272 = .ok (.lload 6, 2) := dk_22 6 (dk_at dksL_law_90 18 rfl rfl)
theorem dL_law_2274 : decode cL_law 2274 = .ok (.lcmp, 1) := dk_148 (dk_at dksL_law_90 20 rfl rfl)
theorem dL_law_2275 : decode cL_law 2275 = .ok (.ifCond .eq 5, 3) := dk_153 0 5 (dk_at dksL_law_90 21 rfl rfl)
theorem dL_law_2278 : decode cL_law 2278 = .ok (.iconst 0, 1) := dk_3 (dk_at dksL_law_91 0 rfl rfl)
theorem dL_law_2279 : decode cL_law 2279 = .ok (.ireturn, 1) := dk_172 (dk_at dksL_law_91 1 rfl rfl)
theorem dL_law_2280 : decode cL_law 2280 = .ok (.goto 848, 3) := dk_167 3 80 (dk_at dksL_law_91 2 rfl rfl)
theorem dL_law_2283 : decode cL_law 2283 = .ok (.aload_n 1, 1) := dk_43 (dk_at dksL_law_91 5 rfl rfl)
theorem dL_law_2284 : decode cL_law 2284 = .ok (.aload_n 3, 1) := dk_45 (dk_at dksL_law_91 6 rfl rfl)
theorem dL_law_2285 : decode cL_law 2285 = .ok (.invokestatic 256, 3) := dk_184 1 0 (dk_at dksL_law_91 7 rfl rfl)
theorem dL_law_2288 : decode cL_law 2288 = .ok (.istore 5, 2) := dk_54 5 (dk_at dksL_law_91 10 rfl rfl)
theorem dL_law_2290 : decode cL_law 2290 = .ok (.aload_n 2, 1) := dk_44 (dk_at dksL_law_91 12 rfl rfl)
theorem dL_law_2291 : decode cL_law 2291 = .ok (.invokevirtual 258, 3) := dk_182 1 2 (dk_at dksL_law_91 13 rfl rfl)
theorem dL_law_2294 : decode cL_law 2294 = .ok (.istore 6, 2) := dk_54 6 (dk_at dksL_law_91 16 rfl rfl)
theorem dL_law_2296 : decode cL_law 2296 = .ok (.aload_n 2, 1) := dk_44 (dk_at dksL_law_91 18 rfl rfl)
theorem dL_law_2297 : decode cL_law 2297 = .ok (.invokevirtual 167, 3) := dk_182 0 167 (dk_at dksL_law_91 19 rfl rfl)
theorem dL_law_2300 : decode cL_law 2300 = .ok (.iload 5, 2) := dk_21 5 (dk_at dksL_law_91 22 rfl rfl)
theorem dL_law_2302 : decode cL_law 2302 = .ok (.if_icmp .eq 5, 3) := dk_159 0 5 (dk_at dksL_law_92 0 rfl rfl)
theorem dL_law_2305 : decode cL_law 2305 = .ok (.iconst 0, 1) := dk_3 (dk_at dksL_law_92 3 rfl rfl)
theorem dL_law_2306 : decode cL_law 2306 = .ok (.ireturn, 1) := dk_172 (dk_at dksL_law_92 4 rfl rfl)
theorem dL_law_2307 : decode cL_law 2307 = .ok (.iload 5, 2) := dk_21 5 (dk_at dksL_law_92 5 rfl rfl)
theorem dL_law_2309 : decode cL_law 2309 = .ok (.ifCond .ne 15, 3) := dk_154 0 15 (dk_at dksL_law_92 7 rfl rfl)
theorem dL_law_2312 : decode cL_law 2312 = .ok (.aload_n 3, 1) := dk_45 (dk_at dksL_law_92 10 rfl rfl)
theorem dL_law_2313 : decode cL_law 2313 = .ok (.iconst 0, 1) := dk_3 (dk_at dksL_law_92 11 rfl rfl)
theorem dL_law_2314 : decode cL_law 2314 = .ok (.laload, 1) := dk_47 (dk_at dksL_law_92 12 rfl rfl)
theorem dL_law_2315 : decode cL_law 2315 = .ok (.iload 6, 2) := dk_21 6 (dk_at dksL_law_92 13 rfl rfl)
theorem dL_law_2317 : decode cL_law 2317 = .ok (.i2l, 1) := dk_133 (dk_at dksL_law_92 15 rfl rfl)
theorem dL_law_2318 : decode cL_law 2318 = .ok (.lcmp, 1) := dk_148 (dk_at dksL_law_92 16 rfl rfl)
theorem dL_law_2319 : decode cL_law 2319 = .ok (.ifCond .eq 5, 3) := dk_153 0 5 (dk_at dksL_law_92 17 rfl rfl)
theorem dL_law_2322 : decode cL_law 2322 = .ok (.iconst 0, 1) := dk_3 (dk_at dksL_law_92 20 rfl rfl)
theorem dL_law_2323 : decode cL_law 2323 = .ok (.ireturn, 1) := dk_172 (dk_at dksL_law_92 21 rfl rfl)
theorem dL_law_2324 : decode cL_law 2324 = .ok (.goto 804, 3) := dk_167 3 36 (dk_at dksL_law_93 0 rfl rfl)
theorem dL_law_2327 : decode cL_law 2327 = .ok (.aload_n 1, 1) := dk_43 (dk_at dksL_law_93 3 rfl rfl)
theorem dL_law_2328 : decode cL_law 2328 = .ok (.aload_n 0, 1) := dk_42 (dk_at dksL_law_93 4 rfl rfl)
theorem dL_law_2329 : decode cL_law 2329 = .ok (.iload 4, 2) := dk_21 4 (dk_at dksL_law_93 5 rfl rfl)
theorem dL_law_2331 : decode cL_law 2331 = .ok (.iconst 1, 1) := dk_4 (dk_at dksL_law_93 7 rfl rfl)
theorem dL_law_2332 : decode cL_law 2332 = .ok (.iadd, 1) := dk_96 (dk_at dksL_law_93 8 rfl rfl)
theorem dL_law_2333 : decode cL_law 2333 = .ok (.iaload, 1) := dk_46 (dk_at dksL_law_93 9 rfl rfl)
theorem dL_law_2334 : decode cL_law 2334 = .ok (.aload_n 3, 1) := dk_45 (dk_at dksL_law_93 10 rfl rfl)
theorem dL_law_2335 : decode cL_law 2335 = .ok (.invokestatic 259, 3) := dk_184 1 3 (dk_at dksL_law_93 11 rfl rfl)
theorem dL_law_2338 : decode cL_law 2338 = .ok (.istore 5, 2) := dk_54 5 (dk_at dksL_law_93 14 rfl rfl)
theorem dL_law_2340 : decode cL_law 2340 = .ok (.aload_n 2, 1) := dk_44 (dk_at dksL_law_93 16 rfl rfl)
theorem dL_law_2341 : decode cL_law 2341 = .ok (.aload_n 0, 1) := dk_42 (dk_at dksL_law_93 17 rfl rfl)
theorem dL_law_2342 : decode cL_law 2342 = .ok (.iload 4, 2) := dk_21 4 (dk_at dksL_law_93 18 rfl rfl)
theorem dL_law_2344 : decode cL_law 2344 = .ok (.iconst 1, 1) := dk_4 (dk_at dksL_law_93 20 rfl rfl)
theorem dL_law_2345 : decode cL_law 2345 = .ok (.iadd, 1) := dk_96 (dk_at dksL_law_93 21 rfl rfl)
theorem dL_law_2346 : decode cL_law 2346 = .ok (.iaload, 1) := dk_46 (dk_at dksL_law_93 22 rfl rfl)
theorem dL_law_2347 : decode cL_law 2347 = .ok (.invokevirtual 261, 3) := dk_182 1 5 (dk_at dksL_law_94 0 rfl rfl)
theorem dL_law_2350 : decode cL_law 2350 = .ok (.istore 6, 2) := dk_54 6 (dk_at dksL_law_94 3 rfl rfl)
theorem dL_law_2352 : decode cL_law 2352 = .ok (.aload_n 2, 1) := dk_44 (dk_at dksL_law_94 5 rfl rfl)
theorem dL_law_2353 : decode cL_law 2353 = .ok (.invokevirtual 167, 3) := dk_182 0 167 (dk_at dksL_law_94 6 rfl rfl)
theorem dL_law_2356 : decode cL_law 2356 = .ok (.iload 5, 2) := dk_21 5 (dk_at dksL_law_94 9 rfl rfl)
theorem dL_law_2358 : decode cL_law 2358 = .ok (.if_icmp .eq 5, 3) := dk_159 0 5 (dk_at dksL_law_94 11 rfl rfl)
theorem dL_law_2361 : decode cL_law 2361 = .ok (.iconst 0, 1) := dk_3 (dk_at dksL_law_94 14 rfl rfl)
theorem dL_law_2362 : decode cL_law 2362 = .ok (.ireturn, 1) := dk_172 (dk_at dksL_law_94 15 rfl rfl)
theorem dL_law_2363 : decode cL_law 2363 = .ok (.iload 5, 2) := dk_21 5 (dk_at dksL_law_94 16 rfl rfl)
theorem dL_law_2365 : decode cL_law 2365 = .ok (.ifCond .ne 15, 3) := dk_154 0 15 (dk_at dksL_law_94 18 rfl rfl)
theorem dL_law_2368 : decode cL_law 2368 = .ok (.aload_n 3, 1) := dk_45 (dk_at dksL_law_94 21 rfl rfl)
theorem dL_law_2369 : decode cL_law 2369 = .ok (.iconst 0, 1) := dk_3 (dk_at dksL_law_94 22 rfl rfl)
theorem dL_law_2370 : decode cL_law 2370 = .ok (.laload, 1) := dk_47 (dk_at dksL_law_94 23 rfl rfl)
theorem dL_law_2371 : decode cL_law 2371 = .ok (.iload 6, 2) := dk_21 6 (dk_at dksL_law_95 0 rfl rfl)
theorem dL_law_2373 : decode cL_law 2373 = .ok (.i2l, 1) := dk_133 (dk_at dksL_law_95 2 rfl rfl)
theorem dL_law_2374 : decode cL_law 2374 = .ok (.lcmp, 1) := dk_148 (dk_at dksL_law_95 3 rfl rfl)
theorem dL_law_2375 : decode cL_law 2375 = .ok (.ifCond .eq 5, 3) := dk_153 0 5 (dk_at dksL_law_95 4 rfl rfl)
theorem dL_law_2378 : decode cL_law 2378 = .ok (.iconst 0, 1) := dk_3 (dk_at dksL_law_95 7 rfl rfl)
theorem dL_law_2379 : decode cL_law 2379 = .ok (.ireturn, 1) := dk_172 (dk_at dksL_law_95 8 rfl rfl)
theorem dL_law_2380 : decode cL_law 2380 = .ok (.goto 748, 3) := dk_167 2 236 (dk_at dksL_law_95 9 rfl rfl)
theorem dL_law_2383 : decode cL_law 2383 = .ok (.aload_n 1, 1) := dk_43 (dk_at dksL_law_95 12 rfl rfl)
theorem dL_law_2384 : decode cL_law 2384 = .ok (.aload_n 0, 1) := dk_42 (dk_at dksL_law_95 13 rfl rfl)
theorem dL_law_2385 : decode cL_law 2385 = .ok (.iload 4, 2) := dk_21 4 (dk_at dksL_law_95 14 rfl rfl)
theorem dL_law_2387 : decode cL_law 2387 = .ok (.iconst 1, 1) := dk_4 (dk_at dksL_law_95 16 rfl rfl)
theorem dL_law_2388 : decode cL_law 2388 = .ok (.iadd, 1) := dk_96 (dk_at dksL_law_95 17 rfl rfl)
theorem dL_law_2389 : decode cL_law 2389 = .ok (.iaload, 1) := dk_46 (dk_at dksL_law_95 18 rfl rfl)
theorem dL_law_2390 : decode cL_law 2390 = .ok (.aload_n 0, 1) := dk_42 (dk_at dksL_law_95 19 rfl rfl)
theorem dL_law_2391 : decode cL_law 2391 = .ok (.iload 4, 2) := dk_21 4 (dk_at dksL_law_95 20 rfl rfl)
theorem dL_law_2393 : decode cL_law 2393 = .ok (.iconst 2, 1) := dk_5 (dk_at dksL_law_95 22 rfl rfl)
theorem dL_law_2394 : decode cL_law 2394 = .ok (.iadd, 1) := dk_96 (dk_at dksL_law_95 23 rfl rfl)
theorem dL_law_2395 : decode cL_law 2395 = .ok (.iaload, 1) := dk_46 (dk_at dksL_law_96 0 rfl rfl)
theorem dL_law_2396 : decode cL_law 2396 = .ok (.aload_n 3, 1) := dk_45 (dk_at dksL_law_96 1 rfl rfl)
theorem dL_law_2397 : decode cL_law 2397 = .ok (.invokestatic 262, 3) := dk_184 1 6 (dk_at dksL_law_96 2 rfl rfl)
theorem dL_law_2400 : decode cL_law 2400 = .ok (.istore 5, 2) := dk_54 5 (dk_at dksL_law_96 5 rfl rfl)
theorem dL_law_2402 : decode cL_law 2402 = .ok (.aload_n 2, 1) := dk_44 (dk_at dksL_law_96 7 rfl rfl)
theorem dL_law_2403 : decode cL_law 2403 = .ok (.aload_n 0, 1) := dk_42 (dk_at dksL_law_96 8 rfl rfl)
theorem dL_law_2404 : decode cL_law 2404 = .ok (.iload 4, 2) := dk_21 4 (dk_at dksL_law_96 9 rfl rfl)
theorem dL_law_2406 : decode cL_law 2406 = .ok (.iconst 1, 1) := dk_4 (dk_at dksL_law_96 11 rfl rfl)
theorem dL_law_2407 : decode cL_law 2407 = .ok (.iadd, 1) := dk_96 (dk_at dksL_law_96 12 rfl rfl)
theorem dL_law_2408 : decode cL_law 2408 = .ok (.iaload, 1) := dk_46 (dk_at dksL_law_96 13 rfl rfl)
theorem dL_law_2409 : decode cL_law 2409 = .ok (.aload_n 0, 1) := dk_42 (dk_at dksL_law_96 14 rfl rfl)
theorem dL_law_2410 : decode cL_law 2410 = .ok (.iload 4, 2) := dk_21 4 (dk_at dksL_law_96 15 rfl rfl)
theorem dL_law_2412 : decode cL_law 2412 = .ok (.iconst 2, 1) := dk_5 (dk_at dksL_law_96 17 rfl rfl)
theorem dL_law_2413 : decode cL_law 2413 = .ok (.iadd, 1) := dk_96 (dk_at dksL_law_96 18 rfl rfl)
theorem dL_law_2414 : decode cL_law 2414 = .ok (.iaload, 1) := dk_46 (dk_at dksL_law_96 19 rfl rfl)
theorem dL_law_2415 : decode cL_law 2415 = .ok (.invokevirtual 264, 3) := dk_182 1 8 (dk_at dksL_law_96 20 rfl rfl)
theorem dL_law_2418 : decode cL_law 2418 = .ok (.istore 6, 2) := dk_54 6 (dk_at dksL_law_97 0 rfl rfl)
theorem dL_law_2420 : decode cL_law 2420 = .ok (.aload_n 2, 1) := dk_44 (dk_at dksL_law_97 2 rfl rfl)
theorem dL_law_2421 : decode cL_law 2421 = .ok (.invokevirtual 167, 3) := dk_182 0 167 (dk_at dksL_law_97 3 rfl rfl)
theorem dL_law_2424 : decode cL_law 2424 = .ok (.iload 5, 2) := dk_21 5 (dk_at dksL_law_97 6 rfl rfl)
theorem dL_law_2426 : decode cL_law 2426 = .ok (.if_icmp .eq 5, 3) := dk_159 0 5 (dk_at dksL_law_97 8 rfl rfl)
theorem dL_law_2429 : decode cL_law 2429 = .ok (.iconst 0, 1) := dk_3 (dk_at dksL_law_97 11 rfl rfl)
theorem dL_law_2430 : decode cL_law 2430 = .ok (.ireturn, 1) := dk_172 (dk_at dksL_law_97 12 rfl rfl)
theorem dL_law_2431 : decode cL_law 2431 = .ok (.iload 5, 2) := dk_21 5 (dk_at dksL_law_97 13 rfl rfl)
theorem dL_law_2433 : decode cL_law 2433 = .ok (.ifCond .ne 15, 3) := dk_154 0 15 (dk_at dksL_law_97 15 rfl rfl)
theorem dL_law_2436 : decode cL_law 2436 = .ok (.aload_n 3, 1) := dk_45 (dk_at dksL_law_97 18 rfl rfl)
theorem dL_law_2437 : decode cL_law 2437 = .ok (.iconst 0, 1) := dk_3 (dk_at dksL_law_97 19 rfl rfl)
theorem dL_law_2438 : decode cL_law 2438 = .ok (.laload, 1) := dk_47 (dk_at dksL_law_97 20 rfl rfl)
theorem dL_law_2439 : decode cL_law 2439 = .ok (.iload 6, 2) := dk_21 6 (dk_at dksL_law_97 21 rfl rfl)
theorem dL_law_2441 : decode cL_law 2441 = .ok (.i2l, 1) := dk_133 (dk_at dksL_law_97 23 rfl rfl)
theorem dL_law_2442 : decode cL_law 2442 = .ok (.lcmp, 1) := dk_148 (dk_at dksL_law_98 0 rfl rfl)
theorem dL_law_2443 : decode cL_law 2443 = .ok (.ifCond .eq 5, 3) := dk_153 0 5 (dk_at dksL_law_98 1 rfl rfl)
theorem dL_law_2446 : decode cL_law 2446 = .ok (.iconst 0, 1) := dk_3 (dk_at dksL_law_98 4 rfl rfl)
theorem dL_law_2447 : decode cL_law 2447 = .ok (.ireturn, 1) := dk_172 (dk_at dksL_law_98 5 rfl rfl)
theorem dL_law_2448 : decode cL_law 2448 = .ok (.goto 680, 3) := dk_167 2 168 (dk_at dksL_law_98 6 rfl rfl)
theorem dL_law_2451 : decode cL_law 2451 = .ok (.aload_n 1, 1) := dk_43 (dk_at dksL_law_98 9 rfl rfl)
theorem dL_law_2452 : decode cL_law 2452 = .ok (.aload_n 0, 1) := dk_42 (dk_at dksL_law_98 10 rfl rfl)
theorem dL_law_2453 : decode cL_law 2453 = .ok (.iload 4, 2) := dk_21 4 (dk_at dksL_law_98 11 rfl rfl)
theorem dL_law_2455 : decode cL_law 2455 = .ok (.iconst 1, 1) := dk_4 (dk_at dksL_law_98 13 rfl rfl)
theorem dL_law_2456 : decode cL_law 2456 = .ok (.iadd, 1) := dk_96 (dk_at dksL_law_98 14 rfl rfl)
theorem dL_law_2457 : decode cL_law 2457 = .ok (.iaload, 1) := dk_46 (dk_at dksL_law_98 15 rfl rfl)
theorem dL_law_2458 : decode cL_law 2458 = .ok (.aload_n 3, 1) := dk_45 (dk_at dksL_law_98 16 rfl rfl)
theorem dL_law_2459 : decode cL_law 2459 = .ok (.invokestatic 265, 3) := dk_184 1 9 (dk_at dksL_law_98 17 rfl rfl)
theorem dL_law_2462 : decode cL_law 2462 = .ok (.istore 5, 2) := dk_54 5 (dk_at dksL_law_98 20 rfl rfl)
theorem dL_law_2464 : decode cL_law 2464 = .ok (.aload_n 2, 1) := dk_44 (dk_at dksL_law_98 22 rfl rfl)
theorem dL_law_2465 : decode cL_law 2465 = .ok (.aload_n 0, 1) := dk_42 (dk_at dksL_law_98 23 rfl rfl)
theorem dL_law_2466 : decode cL_law 2466 = .ok (.iload 4, 2) := dk_21 4 (dk_at dksL_law_99 0 rfl rfl)
theorem dL_law_2468 : decode cL_law 2468 = .ok (.iconst 1, 1) := dk_4 (dk_at dksL_law_99 2 rfl rfl)
theorem dL_law_2469 : decode cL_law 2469 = .ok (.iadd, 1) := dk_96 (dk_at dksL_law_99 3 rfl rfl)
theorem dL_law_2470 : decode cL_law 2470 = .ok (.iaload, 1) := dk_46 (dk_at dksL_law_99 4 rfl rfl)
theorem dL_law_2471 : decode cL_law 2471 = .ok (.invokevirtual 267, 3) := dk_182 1 11 (dk_at dksL_law_99 5 rfl rfl)
theorem dL_law_2474 : decode cL_law 2474 = .ok (.istore 6, 2) := dk_54 6 (dk_at dksL_law_99 8 rfl rfl)
theorem dL_law_2476 : decode cL_law 2476 = .ok (.aload_n 2, 1) := dk_44 (dk_at dksL_law_99 10 rfl rfl)
theorem dL_law_2477 : decode cL_law 2477 = .ok (.invokevirtual 167, 3) := dk_182 0 167 (dk_at dksL_law_99 11 rfl rfl)
theorem dL_law_2480 : decode cL_law 2480 = .ok (.iload 5, 2) := dk_21 5 (dk_at dksL_law_99 14 rfl rfl)
theorem dL_law_2482 : decode cL_law 2482 = .ok (.if_icmp .eq 5, 3) := dk_159 0 5 (dk_at dksL_law_99 16 rfl rfl)
theorem dL_law_2485 : decode cL_law 2485 = .ok (.iconst 0, 1) := dk_3 (dk_at dksL_law_99 19 rfl rfl)
theorem dL_law_2486 : decode cL_law 2486 = .ok (.ireturn, 1) := dk_172 (dk_at dksL_law_99 20 rfl rfl)
theorem dL_law_2487 : decode cL_law 2487 = .ok (.iload 5, 2) := dk_21 5 (dk_at dksL_law_99 21 rfl rfl)
theorem dL_law_2489 : decode cL_law 2489 = .ok (.ifCond .ne 15, 3) := dk_154 0 15 (dk_at dksL_law_100 0 rfl rfl)
theorem dL_law_2492 : decode cL_law 2492 = .ok (.aload_n 3, 1) := dk_45 (dk_at dksL_law_100 3 rfl rfl)
theorem dL_law_2493 : decode cL_law 2493 = .ok (.iconst 0, 1) := dk_3 (dk_at dksL_law_100 4 rfl rfl)
theorem dL_law_2494 : decode cL_law 2494 = .ok (.laload, 1) := dk_47 (dk_at dksL_law_100 5 rfl rfl)
theorem dL_law_2495 : decode cL_law 2495 = .ok (.iload 6, 2) := dk_21 6 (dk_at dksL_law_100 6 rfl rfl)
theorem dL_law_2497 : decode cL_law 2497 = .ok (.i2l, 1) := dk_133 (dk_at dksL_law_100 8 rfl rfl)
theorem dL_law_2498 : decode cL_law 2498 = .ok (.lcmp, 1) := dk_148 (dk_at dksL_law_100 9 rfl rfl)
theorem dL_law_2499 : decode cL_law 2499 = .ok (.ifCond .eq 5, 3) := dk_153 0 5 (dk_at dksL_law_100 10 rfl rfl)
theorem dL_law_2502 : decode cL_law 2502 = .ok (.iconst 0, 1) := dk_3 (dk_at dksL_law_100 13 rfl rfl)
theorem dL_law_2503 : decode cL_law 2503 = .ok (.ireturn, 1) := dk_172 (dk_at dksL_law_100 14 rfl rfl)
theorem dL_law_2504 : decode cL_law 2504 = .ok (.goto 624, 3) := dk_167 2 112 (dk_at dksL_law_100 15 rfl rfl)
theorem dL_law_2507 : decode cL_law 2507 = .ok (.aload_n 1, 1) := dk_43 (dk_at dksL_law_100 18 rfl rfl)
theorem dL_law_2508 : decode cL_law 2508 = .ok (.aload_n 0, 1) := dk_42 (dk_at dksL_law_100 19 rfl rfl)
theorem dL_law_2509 : decode cL_law 2509 = .ok (.iload 4, 2) := dk_21 4 (dk_at dksL_law_100 20 rfl rfl)
theorem dL_law_2511 : decode cL_law 2511 = .ok (.iconst 1, 1) := dk_4 (dk_at dksL_law_100 22 rfl rfl)
theorem dL_law_2512 : decode cL_law 2512 = .ok (.iadd, 1) := dk_96 (dk_at dksL_law_100 23 rfl rfl)
theorem dL_law_2513 : decode cL_law 2513 = .ok (.iaload, 1) := dk_46 (dk_at dksL_law_101 0 rfl rfl)
theorem dL_law_2514 : decode cL_law 2514 = .ok (.aload_n 3, 1) := dk_45 (dk_at dksL_law_101 1 rfl rfl)
theorem dL_law_2515 : decode cL_law 2515 = .ok (.invokestatic 268, 3) := dk_184 1 12 (dk_at dksL_law_101 2 rfl rfl)
theorem dL_law_2518 : decode cL_law 2518 = .ok (.istore 5, 2) := dk_54 5 (dk_at dksL_law_101 5 rfl rfl)
theorem dL_law_2520 : decode cL_law 2520 = .ok (.aload_n 2, 1) := dk_44 (dk_at dksL_law_101 7 rfl rfl)
theorem dL_law_2521 : decode cL_law 2521 = .ok (.aload_n 0, 1) := dk_42 (dk_at dksL_law_101 8 rfl rfl)
theorem dL_law_2522 : decode cL_law 2522 = .ok (.iload 4, 2) := dk_21 4 (dk_at dksL_law_101 9 rfl rfl)
theorem dL_law_2524 : decode cL_law 2524 = .ok (.iconst 1, 1) := dk_4 (dk_at dksL_law_101 11 rfl rfl)
theorem dL_law_2525 : decode cL_law 2525 = .ok (.iadd, 1) := dk_96 (dk_at dksL_law_101 12 rfl rfl)
theorem dL_law_2526 : decode cL_law 2526 = .ok (.iaload, 1) := dk_46 (dk_at dksL_law_101 13 rfl rfl)
theorem dL_law_2527 : decode cL_law 2527 = .ok (.invokevirtual 270, 3) := dk_182 1 14 (dk_at dksL_law_101 14 rfl rfl)
theorem dL_law_2530 : decode cL_law 2530 = .ok (.istore 6, 2) := dk_54 6 (dk_at dksL_law_101 17 rfl rfl)
theorem dL_law_2532 : decode cL_law 2532 = .ok (.aload_n 2, 1) := dk_44 (dk_at dksL_law_101 19 rfl rfl)
theorem dL_law_2533 : decode cL_law 2533 = .ok (.invokevirtual 167, 3) := dk_182 0 167 (dk_at dksL_law_101 20 rfl rfl)
theorem dL_law_2536 : decode cL_law 2536 = .ok (.iload 5, 2) := dk_21 5 (dk_at dksL_law_102 0 rfl rfl)
theorem dL_law_2538 : decode cL_law 2538 = .ok (.if_icmp .eq 5, 3) := dk_159 0 5 (dk_at dksL_law_102 2 rfl rfl)
theorem dL_law_2541 : decode cL_law 2541 = .ok (.iconst 0, 1) := dk_3 (dk_at dksL_law_102 5 rfl rfl)
theorem dL_law_2542 : decode cL_law 2542 = .ok (.ireturn, 1) := dk_172 (dk_at dksL_law_102 6 rfl rfl)
theorem dL_law_2543 : decode cL_law 2543 = .ok (.iload 5, 2) := dk_21 5 (dk_at dksL_law_102 7 rfl rfl)
theorem dL_law_2545 : decode cL_law 2545 = .ok (.ifCond .ne 15, 3) := dk_154 0 15 (dk_at dksL_law_102 9 rfl rfl)
theorem dL_law_2548 : decode cL_law 2548 = .ok (.aload_n 3, 1) := dk_45 (dk_at dksL_law_102 12 rfl rfl)
theorem dL_law_2549 : decode cL_law 2549 = .ok (.iconst 0, 1) := dk_3 (dk_at dksL_law_102 13 rfl rfl)
theorem dL_law_2550 : decode cL_law 2550 = .ok (.laload, 1) := dk_47 (dk_at dksL_law_102 14 rfl rfl)
theorem dL_law_2551 : decode cL_law 2551 = .ok (.iload 6, 2) := dk_21 6 (dk_at dksL_law_102 15 rfl rfl)
theorem dL_law_2553 : decode cL_law 2553 = .ok (.i2l, 1) := dk_133 (dk_at dksL_law_102 17 rfl rfl)
theorem dL_law_2554 : decode cL_law 2554 = .ok (.lcmp, 1) := dk_148 (dk_at dksL_law_102 18 rfl rfl)
theorem dL_law_2555 : decode cL_law 2555 = .ok (.ifCond .eq 5, 3) := dk_153 0 5 (dk_at dksL_law_102 19 rfl rfl)
theorem dL_law_2558 : decode cL_law 2558 = .ok (.iconst 0, 1) := dk_3 (dk_at dksL_law_102 22 rfl rfl)
theorem dL_law_2559 : decode cL_law 2559 = .ok (.ireturn, 1) := dk_172 (dk_at dksL_law_102 23 rfl rfl)
theorem dL_law_2560 : decode cL_law 2560 = .ok (.goto 568, 3) := dk_167 2 56 (dk_at dksL_law_103 0 rfl rfl)
theorem dL_law_2563 : decode cL_law 2563 = .ok (.aload_n 1, 1) := dk_43 (dk_at dksL_law_103 3 rfl rfl)
theorem dL_law_2564 : decode cL_law 2564 = .ok (.aload_n 0, 1) := dk_42 (dk_at dksL_law_103 4 rfl rfl)
theorem dL_law_2565 : decode cL_law 2565 = .ok (.iload 4, 2) := dk_21 4 (dk_at dksL_law_103 5 rfl rfl)
theorem dL_law_2567 : decode cL_law 2567 = .ok (.iconst 1, 1) := dk_4 (dk_at dksL_law_103 7 rfl rfl)
theorem dL_law_2568 : decode cL_law 2568 = .ok (.iadd, 1) := dk_96 (dk_at dksL_law_103 8 rfl rfl)
theorem dL_law_2569 : decode cL_law 2569 = .ok (.iaload, 1) := dk_46 (dk_at dksL_law_103 9 rfl rfl)
theorem dL_law_2570 : decode cL_law 2570 = .ok (.aload_n 0, 1) := dk_42 (dk_at dksL_law_103 10 rfl rfl)
theorem dL_law_2571 : decode cL_law 2571 = .ok (.iload 4, 2) := dk_21 4 (dk_at dksL_law_103 11 rfl rfl)
theorem dL_law_2573 : decode cL_law 2573 = .ok (.iconst 2, 1) := dk_5 (dk_at dksL_law_103 13 rfl rfl)
theorem dL_law_2574 : decode cL_law 2574 = .ok (.iadd, 1) := dk_96 (dk_at dksL_law_103 14 rfl rfl)
theorem dL_law_2575 : decode cL_law 2575 = .ok (.iaload, 1) := dk_46 (dk_at dksL_law_103 15 rfl rfl)
theorem dL_law_2576 : decode cL_law 2576 = .ok (.aload_n 3, 1) := dk_45 (dk_at dksL_law_103 16 rfl rfl)
theorem dL_law_2577 : decode cL_law 2577 = .ok (.invokestatic 271, 3) := dk_184 1 15 (dk_at dksL_law_103 17 rfl rfl)
theorem dL_law_2580 : decode cL_law 2580 = .ok (.istore 5, 2) := dk_54 5 (dk_at dksL_law_103 20 rfl rfl)
theorem dL_law_2582 : decode cL_law 2582 = .ok (.aload_n 2, 1) := dk_44 (dk_at dksL_law_103 22 rfl rfl)
theorem dL_law_2583 : decode cL_law 2583 = .ok (.aload_n 0, 1) := dk_42 (dk_at dksL_law_103 23 rfl rfl)
theorem dL_law_2584 : decode cL_law 2584 = .ok (.iload 4, 2) := dk_21 4 (dk_at dksL_law_104 0 rfl rfl)
theorem dL_law_2586 : decode cL_law 2586 = .ok (.iconst 1, 1) := dk_4 (dk_at dksL_law_104 2 rfl rfl)
theorem dL_law_2587 : decode cL_law 2587 = .ok (.iadd, 1) := dk_96 (dk_at dksL_law_104 3 rfl rfl)
theorem dL_law_2588 : decode cL_law 2588 = .ok (.iaload, 1) := dk_46 (dk_at dksL_law_104 4 rfl rfl)
theorem dL_law_2589 : decode cL_law 2589 = .ok (.aload_n 0, 1) := dk_42 (dk_at dksL_law_104 5 rfl rfl)
theorem dL_law_2590 : decode cL_law 2590 = .ok (.iload 4, 2) := dk_21 4 (dk_at dksL_law_104 6 rfl rfl)
theorem dL_law_2592 : decode cL_law 2592 = .ok (.iconst 2, 1) := dk_5 (dk_at dksL_law_104 8 rfl rfl)
theorem dL_law_2593 : decode cL_law 2593 = .ok (.iadd, 1) := dk_96 (dk_at dksL_law_104 9 rfl rfl)
theorem dL_law_2594 : decode cL_law 2594 = .ok (.iaload, 1) := dk_46 (dk_at dksL_law_104 10 rfl rfl)
theorem dL_law_2595 : decode cL_law 2595 = .ok (.invokevirtual 273, 3) := dk_182 1 17 (dk_at dksL_law_104 11 rfl rfl)
theorem dL_law_2598 : decode cL_law 2598 = .ok (.lstore 6, 2) := dk_55 6 (dk_at dksL_law_104 14 rfl rfl)
theorem dL_law_2600 : decode cL_law 2600 = .ok (.aload_n 2, 1) := dk_44 (dk_at dksL_law_104 16 rfl rfl)
theorem dL_law_2601 : decode cL_law 2601 = .ok (.invokevirtual 167, 3) := dk_182 0 167 (dk_at dksL_law_104 17 rfl rfl)
theorem dL_law_2604 : decode cL_law 2604 = .ok (.iload 5, 2) := dk_21 5 (dk_at dksL_law_104 20 rfl rfl)
theorem dL_law_2606 : decode cL_law 2606 = .ok (.if_icmp .eq 5, 3) := dk_159 0 5 (dk_at dksL_law_105 0 rfl rfl)
theorem dL_law_2609 : decode cL_law 2609 = .ok (.iconst 0, 1) := dk_3 (dk_at dksL_law_105 3 rfl rfl)
theorem dL_law_2610 : decode cL_law 2610 = .ok (.ireturn, 1) := dk_172 (dk_at dksL_law_105 4 rfl rfl)
theorem dL_law_2611 : decode cL_law 2611 = .ok (.iload 5, 2) := dk_21 5 (dk_at dksL_law_105 5 rfl rfl)
theorem dL_law_2613 : decode cL_law 2613 = .ok (.ifCond .ne 14, 3) := dk_154 0 14 (dk_at dksL_law_105 7 rfl rfl)
theorem dL_law_2616 : decode cL_law 2616 = .ok (.aload_n 3, 1) := dk_45 (dk_at dksL_law_105 10 rfl rfl)
theorem dL_law_2617 : decode cL_law 2617 = .ok (.iconst 0, 1) := dk_3 (dk_at dksL_law_105 11 rfl rfl)
theorem dL_law_2618 : decode cL_law 2618 = .ok (.laload, 1) := dk_47 (dk_at dksL_law_105 12 rfl rfl)
theorem dL_law_2619 : decode cL_law 2619 = .ok (.lload 6, 2) := dk_22 6 (dk_at dksL_law_105 13 rfl rfl)
theorem dL_law_2621 : decode cL_law 2621 = .ok (.lcmp, 1) := dk_148 (dk_at dksL_law_105 15 rfl rfl)
theorem dL_law_2622 : decode cL_law 2622 = .ok (.ifCond .eq 5, 3) := dk_153 0 5 (dk_at dksL_law_105 16 rfl rfl)
theorem dL_law_2625 : decode cL_law 2625 = .ok (.iconst 0, 1) := dk_3 (dk_at dksL_law_105 19 rfl rfl)
theorem dL_law_2626 : decode cL_law 2626 = .ok (.ireturn, 1) := dk_172 (dk_at dksL_law_105 20 rfl rfl)
theorem dL_law_2627 : decode cL_law 2627 = .ok (.goto 501, 3) := dk_167 1 245 (dk_at dksL_law_105 21 rfl rfl)
theorem dL_law_2630 : decode cL_law 2630 = .ok (.aload_n 1, 1) := dk_43 (dk_at dksL_law_106 0 rfl rfl)
theorem dL_law_2631 : decode cL_law 2631 = .ok (.invokevirtual 274, 3) := dk_182 1 18 (dk_at dksL_law_106 1 rfl rfl)
theorem dL_law_2634 : decode cL_law 2634 = .ok (.aload_n 2, 1) := dk_44 (dk_at dksL_law_106 4 rfl rfl)
theorem dL_law_2635 : decode cL_law 2635 = .ok (.invokevirtual 277, 3) := dk_182 1 21 (dk_at dksL_law_106 5 rfl rfl)
theorem dL_law_2638 : decode cL_law 2638 = .ok (.if_icmp .eq 490, 3) := dk_159 1 234 (dk_at dksL_law_106 8 rfl rfl)
theorem dL_law_2641 : decode cL_law 2641 = .ok (.iconst 0, 1) := dk_3 (dk_at dksL_law_106 11 rfl rfl)
theorem dL_law_2642 : decode cL_law 2642 = .ok (.ireturn, 1) := dk_172 (dk_at dksL_law_106 12 rfl rfl)
theorem dL_law_2643 : decode cL_law 2643 = .ok (.aload_n 1, 1) := dk_43 (dk_at dksL_law_106 13 rfl rfl)
theorem dL_law_2644 : decode cL_law 2644 = .ok (.aload_n 0, 1) := dk_42 (dk_at dksL_law_106 14 rfl rfl)
theorem dL_law_2645 : decode cL_law 2645 = .ok (.iload 4, 2) := dk_21 4 (dk_at dksL_law_106 15 rfl rfl)
theorem dL_law_2647 : decode cL_law 2647 = .ok (.iconst 1, 1) := dk_4 (dk_at dksL_law_106 17 rfl rfl)
theorem dL_law_2648 : decode cL_law 2648 = .ok (.iadd, 1) := dk_96 (dk_at dksL_law_106 18 rfl rfl)
theorem dL_law_2649 : decode cL_law 2649 = .ok (.iaload, 1) := dk_46 (dk_at dksL_law_106 19 rfl rfl)
theorem dL_law_2650 : decode cL_law 2650 = .ok (.aload_n 0, 1) := dk_42 (dk_at dksL_law_106 20 rfl rfl)
theorem dL_law_2651 : decode cL_law 2651 = .ok (.iload 4, 2) := dk_21 4 (dk_at dksL_law_106 21 rfl rfl)
theorem dL_law_2653 : decode cL_law 2653 = .ok (.iconst 2, 1) := dk_5 (dk_at dksL_law_106 23 rfl rfl)
theorem dL_law_2654 : decode cL_law 2654 = .ok (.iadd, 1) := dk_96 (dk_at dksL_law_107 0 rfl rfl)
theorem dL_law_2655 : decode cL_law 2655 = .ok (.iaload, 1) := dk_46 (dk_at dksL_law_107 1 rfl rfl)
theorem dL_law_2656 : decode cL_law 2656 = .ok (.aload_n 3, 1) := dk_45 (dk_at dksL_law_107 2 rfl rfl)
theorem dL_law_2657 : decode cL_law 2657 = .ok (.invokestatic 278, 3) := dk_184 1 22 (dk_at dksL_law_107 3 rfl rfl)
theorem dL_law_2660 : decode cL_law 2660 = .ok (.istore 5, 2) := dk_54 5 (dk_at dksL_law_107 6 rfl rfl)
theorem dL_law_2662 : decode cL_law 2662 = .ok (.aload_n 2, 1) := dk_44 (dk_at dksL_law_107 8 rfl rfl)
theorem dL_law_2663 : decode cL_law 2663 = .ok (.aload_n 0, 1) := dk_42 (dk_at dksL_law_107 9 rfl rfl)
theorem dL_law_2664 : decode cL_law 2664 = .ok (.iload 4, 2) := dk_21 4 (dk_at dksL_law_107 10 rfl rfl)
theorem dL_law_2666 : decode cL_law 2666 = .ok (.iconst 1, 1) := dk_4 (dk_at dksL_law_107 12 rfl rfl)
theorem dL_law_2667 : decode cL_law 2667 = .ok (.iadd, 1) := dk_96 (dk_at dksL_law_107 13 rfl rfl)
theorem dL_law_2668 : decode cL_law 2668 = .ok (.iaload, 1) := dk_46 (dk_at dksL_law_107 14 rfl rfl)
theorem dL_law_2669 : decode cL_law 2669 = .ok (.aload_n 0, 1) := dk_42 (dk_at dksL_law_107 15 rfl rfl)
theorem dL_law_2670 : decode cL_law 2670 = .ok (.iload 4, 2) := dk_21 4 (dk_at dksL_law_107 16 rfl rfl)
theorem dL_law_2672 : decode cL_law 2672 = .ok (.iconst 2, 1) := dk_5 (dk_at dksL_law_107 18 rfl rfl)
theorem dL_law_2673 : decode cL_law 2673 = .ok (.iadd, 1) := dk_96 (dk_at dksL_law_107 19 rfl rfl)
theorem dL_law_2674 : decode cL_law 2674 = .ok (.iaload, 1) := dk_46 (dk_at dksL_law_107 20 rfl rfl)
theorem dL_law_2675 : decode cL_law 2675 = .ok (.invokevirtual 280, 3) := dk_182 1 24 (dk_at dksL_law_107 21 rfl rfl)
theorem dL_law_2678 : decode cL_law 2678 = .ok (.lstore 6, 2) := dk_55 6 (dk_at dksL_law_108 0 rfl rfl)
theorem dL_law_2680 : decode cL_law 2680 = .ok (.aload_n 2, 1) := dk_44 (dk_at dksL_law_108 2 rfl rfl)
theorem dL_law_2681 : decode cL_law 2681 = .ok (.invokevirtual 167, 3) := dk_182 0 167 (dk_at dksL_law_108 3 rfl rfl)
theorem dL_law_2684 : decode cL_law 2684 = .ok (.iload 5, 2) := dk_21 5 (dk_at dksL_law_108 6 rfl rfl)
theorem dL_law_2686 : decode cL_law 2686 = .ok (.if_icmp .eq 5, 3) := dk_159 0 5 (dk_at dksL_law_108 8 rfl rfl)
theorem dL_law_2689 : decode cL_law 2689 = .ok (.iconst 0, 1) := dk_3 (dk_at dksL_law_108 11 rfl rfl)
theorem dL_law_2690 : decode cL_law 2690 = .ok (.ireturn, 1) := dk_172 (dk_at dksL_law_108 12 rfl rfl)
theorem dL_law_2691 : decode cL_law 2691 = .ok (.iload 5, 2) := dk_21 5 (dk_at dksL_law_108 13 rfl rfl)
theorem dL_law_2693 : decode cL_law 2693 = .ok (.ifCond .ne 14, 3) := dk_154 0 14 (dk_at dksL_law_108 15 rfl rfl)
theorem dL_law_2696 : decode cL_law 2696 = .ok (.aload_n 3, 1) := dk_45 (dk_at dksL_law_108 18 rfl rfl)
theorem dL_law_2697 : decode cL_law 2697 = .ok (.iconst 0, 1) := dk_3 (dk_at dksL_law_108 19 rfl rfl)
theorem dL_law_2698 : decode cL_law 2698 = .ok (.laload, 1) := dk_47 (dk_at dksL_law_108 20 rfl rfl)
theorem dL_law_2699 : decode cL_law 2699 = .ok (.lload 6, 2) := dk_22 6 (dk_at dksL_law_108 21 rfl rfl)
theorem dL_law_2701 : decode cL_law 2701 = .ok (.lcmp, 1) := dk_148 (dk_at dksL_law_108 23 rfl rfl)
theorem dL_law_2702 : decode cL_law 2702 = .ok (.ifCond .eq 5, 3) := dk_153 0 5 (dk_at dksL_law_109 0 rfl rfl)
theorem dL_law_2705 : decode cL_law 2705 = .ok (.iconst 0, 1) := dk_3 (dk_at dksL_law_109 3 rfl rfl)
theorem dL_law_2706 : decode cL_law 2706 = .ok (.ireturn, 1) := dk_172 (dk_at dksL_law_109 4 rfl rfl)
theorem dL_law_2707 : decode cL_law 2707 = .ok (.goto 421, 3) := dk_167 1 165 (dk_at dksL_law_109 5 rfl rfl)
theorem dL_law_2710 : decode cL_law 2710 = .ok (.aload_n 1, 1) := dk_43 (dk_at dksL_law_109 8 rfl rfl)
theorem dL_law_2711 : decode cL_law 2711 = .ok (.aload_n 0, 1) := dk_42 (dk_at dksL_law_109 9 rfl rfl)
theorem dL_law_2712 : decode cL_law 2712 = .ok (.iload 4, 2) := dk_21 4 (dk_at dksL_law_109 10 rfl rfl)
theorem dL_law_2714 : decode cL_law 2714 = .ok (.iconst 1, 1) := dk_4 (dk_at dksL_law_109 12 rfl rfl)
theorem dL_law_2715 : decode cL_law 2715 = .ok (.iadd, 1) := dk_96 (dk_at dksL_law_109 13 rfl rfl)
theorem dL_law_2716 : decode cL_law 2716 = .ok (.iaload, 1) := dk_46 (dk_at dksL_law_109 14 rfl rfl)
theorem dL_law_2717 : decode cL_law 2717 = .ok (.aload_n 0, 1) := dk_42 (dk_at dksL_law_109 15 rfl rfl)
theorem dL_law_2718 : decode cL_law 2718 = .ok (.iload 4, 2) := dk_21 4 (dk_at dksL_law_109 16 rfl rfl)
theorem dL_law_2720 : decode cL_law 2720 = .ok (.iconst 2, 1) := dk_5 (dk_at dksL_law_109 18 rfl rfl)
theorem dL_law_2721 : decode cL_law 2721 = .ok (.iadd, 1) := dk_96 (dk_at dksL_law_109 19 rfl rfl)
theorem dL_law_2722 : decode cL_law 2722 = .ok (.iaload, 1) := dk_46 (dk_at dksL_law_109 20 rfl rfl)
theorem dL_law_2723 : decode cL_law 2723 = .ok (.aload_n 0, 1) := dk_42 (dk_at dksL_law_109 21 rfl rfl)
theorem dL_law_2724 : decode cL_law 2724 = .ok (.iload 4, 2) := dk_21 4 (dk_at dksL_law_109 22 rfl rfl)
theorem dL_law_2726 : decode cL_law 2726 = .ok (.iconst 3, 1) := dk_6 (dk_at dksL_law_110 0 rfl rfl)
theorem dL_law_2727 : decode cL_law 2727 = .ok (.iadd, 1) := dk_96 (dk_at dksL_law_110 1 rfl rfl)
theorem dL_law_2728 : decode cL_law 2728 = .ok (.iaload, 1) := dk_46 (dk_at dksL_law_110 2 rfl rfl)
theorem dL_law_2729 : decode cL_law 2729 = .ok (.aload_n 3, 1) := dk_45 (dk_at dksL_law_110 3 rfl rfl)
theorem dL_law_2730 : decode cL_law 2730 = .ok (.invokestatic 281, 3) := dk_184 1 25 (dk_at dksL_law_110 4 rfl rfl)
theorem dL_law_2733 : decode cL_law 2733 = .ok (.istore 5, 2) := dk_54 5 (dk_at dksL_law_110 7 rfl rfl)
theorem dL_law_2735 : decode cL_law 2735 = .ok (.aload_n 2, 1) := dk_44 (dk_at dksL_law_110 9 rfl rfl)
theorem dL_law_2736 : decode cL_law 2736 = .ok (.aload_n 0, 1) := dk_42 (dk_at dksL_law_110 10 rfl rfl)
theorem dL_law_2737 : decode cL_law 2737 = .ok (.iload 4, 2) := dk_21 4 (dk_at dksL_law_110 11 rfl rfl)
theorem dL_law_2739 : decode cL_law 2739 = .ok (.iconst 1, 1) := dk_4 (dk_at dksL_law_110 13 rfl rfl)
theorem dL_law_2740 : decode cL_law 2740 = .ok (.iadd, 1) := dk_96 (dk_at dksL_law_110 14 rfl rfl)
theorem dL_law_2741 : decode cL_law 2741 = .ok (.iaload, 1) := dk_46 (dk_at dksL_law_110 15 rfl rfl)
theorem dL_law_2742 : decode cL_law 2742 = .ok (.aload_n 0, 1) := dk_42 (dk_at dksL_law_110 16 rfl rfl)
theorem dL_law_2743 : decode cL_law 2743 = .ok (.iload 4, 2) := dk_21 4 (dk_at dksL_law_110 17 rfl rfl)
theorem dL_law_2745 : decode cL_law 2745 = .ok (.iconst 2, 1) := dk_5 (dk_at dksL_law_110 19 rfl rfl)
theorem dL_law_2746 : decode cL_law 2746 = .ok (.iadd, 1) := dk_96 (dk_at dksL_law_110 20 rfl rfl)
theorem dL_law_2747 : decode cL_law 2747 = .ok (.iaload, 1) := dk_46 (dk_at dksL_law_110 21 rfl rfl)
theorem dL_law_2748 : decode cL_law 2748 = .ok (.aload_n 0, 1) := dk_42 (dk_at dksL_law_110 22 rfl rfl)
theorem dL_law_2749 : decode cL_law 2749 = .ok (.iload 4, 2) := dk_21 4 (dk_at dksL_law_111 0 rfl rfl)
theorem dL_law_2751 : decode cL_law 2751 = .ok (.iconst 3, 1) := dk_6 (dk_at dksL_law_111 2 rfl rfl)
theorem dL_law_2752 : decode cL_law 2752 = .ok (.iadd, 1) := dk_96 (dk_at dksL_law_111 3 rfl rfl)
theorem dL_law_2753 : decode cL_law 2753 = .ok (.iaload, 1) := dk_46 (dk_at dksL_law_111 4 rfl rfl)
theorem dL_law_2754 : decode cL_law 2754 = .ok (.invokevirtual 283, 3) := dk_182 1 27 (dk_at dksL_law_111 5 rfl rfl)
theorem dL_law_2757 : decode cL_law 2757 = .ok (.istore 6, 2) := dk_54 6 (dk_at dksL_law_111 8 rfl rfl)
theorem dL_law_2759 : decode cL_law 2759 = .ok (.aload_n 2, 1) := dk_44 (dk_at dksL_law_111 10 rfl rfl)
theorem dL_law_2760 : decode cL_law 2760 = .ok (.invokevirtual 167, 3) := dk_182 0 167 (dk_at dksL_law_111 11 rfl rfl)
theorem dL_law_2763 : decode cL_law 2763 = .ok (.iload 5, 2) := dk_21 5 (dk_at dksL_law_111 14 rfl rfl)
theorem dL_law_2765 : decode cL_law 2765 = .ok (.if_icmp .eq 5, 3) := dk_159 0 5 (dk_at dksL_law_111 16 rfl rfl)
theorem dL_law_2768 : decode cL_law 2768 = .ok (.iconst 0, 1) := dk_3 (dk_at dksL_law_111 19 rfl rfl)
theorem dL_law_2769 : decode cL_law 2769 = .ok (.ireturn, 1) := dk_172 (dk_at dksL_law_111 20 rfl rfl)
theorem dL_law_2770 : decode cL_law 2770 = .ok (.iload 5, 2) := dk_21 5 (dk_at dksL_law_111 21 rfl rfl)
theorem dL_law_2772 : decode cL_law 2772 = .ok (.ifCond .ne 15, 3) := dk_154 0 15 (dk_at dksL_law_112 0 rfl rfl)
theorem dL_law_2775 : decode cL_law 2775 = .ok (.aload_n 3, 1) := dk_45 (dk_at dksL_law_112 3 rfl rfl)
theorem dL_law_2776 : decode cL_law 2776 = .ok (.iconst 0, 1) := dk_3 (dk_at dksL_law_112 4 rfl rfl)
theorem dL_law_2777 : decode cL_law 2777 = .ok (.laload, 1) := dk_47 (dk_at dksL_law_112 5 rfl rfl)
theorem dL_law_2778 : decode cL_law 2778 = .ok (.iload 6, 2) := dk_21 6 (dk_at dksL_law_112 6 rfl rfl)
theorem dL_law_2780 : decode cL_law 2780 = .ok (.i2l, 1) := dk_133 (dk_at dksL_law_112 8 rfl rfl)
theorem dL_law_2781 : decode cL_law 2781 = .ok (.lcmp, 1) := dk_148 (dk_at dksL_law_112 9 rfl rfl)
theorem dL_law_2782 : decode cL_law 2782 = .ok (.ifCond .eq 5, 3) := dk_153 0 5 (dk_at dksL_law_112 10 rfl rfl)
theorem dL_law_2785 : decode cL_law 2785 = .ok (.iconst 0, 1) := dk_3 (dk_at dksL_law_112 13 rfl rfl)
theorem dL_law_2786 : decode cL_law 2786 = .ok (.ireturn, 1) := dk_172 (dk_at dksL_law_112 14 rfl rfl)
theorem dL_law_2787 : decode cL_law 2787 = .ok (.goto 341, 3) := dk_167 1 85 (dk_at dksL_law_112 15 rfl rfl)
theorem dL_law_2790 : decode cL_law 2790 = .ok (.aload_n 1, 1) := dk_43 (dk_at dksL_law_112 18 rfl rfl)
theorem dL_law_2791 : decode cL_law 2791 = .ok (.aload_n 0, 1) := dk_42 (dk_at dksL_law_112 19 rfl rfl)
theorem dL_law_2792 : decode cL_law 2792 = .ok (.iload 4, 2) := dk_21 4 (dk_at dksL_law_112 20 rfl rfl)
theorem dL_law_2794 : decode cL_law 2794 = .ok (.iconst 1, 1) := dk_4 (dk_at dksL_law_112 22 rfl rfl)
theorem dL_law_2795 : decode cL_law 2795 = .ok (.iadd, 1) := dk_96 (dk_at dksL_law_112 23 rfl rfl)
theorem dL_law_2796 : decode cL_law 2796 = .ok (.iaload, 1) := dk_46 (dk_at dksL_law_113 0 rfl rfl)
theorem dL_law_2797 : decode cL_law 2797 = .ok (.aload_n 0, 1) := dk_42 (dk_at dksL_law_113 1 rfl rfl)
theorem dL_law_2798 : decode cL_law 2798 = .ok (.iload 4, 2) := dk_21 4 (dk_at dksL_law_113 2 rfl rfl)
theorem dL_law_2800 : decode cL_law 2800 = .ok (.iconst 2, 1) := dk_5 (dk_at dksL_law_113 4 rfl rfl)
theorem dL_law_2801 : decode cL_law 2801 = .ok (.iadd, 1) := dk_96 (dk_at dksL_law_113 5 rfl rfl)
theorem dL_law_2802 : decode cL_law 2802 = .ok (.iaload, 1) := dk_46 (dk_at dksL_law_113 6 rfl rfl)
theorem dL_law_2803 : decode cL_law 2803 = .ok (.aload_n 3, 1) := dk_45 (dk_at dksL_law_113 7 rfl rfl)
theorem dL_law_2804 : decode cL_law 2804 = .ok (.invokestatic 284, 3) := dk_184 1 28 (dk_at dksL_law_113 8 rfl rfl)
theorem dL_law_2807 : decode cL_law 2807 = .ok (.istore 5, 2) := dk_54 5 (dk_at dksL_law_113 11 rfl rfl)
theorem dL_law_2809 : decode cL_law 2809 = .ok (.aload_n 2, 1) := dk_44 (dk_at dksL_law_113 13 rfl rfl)
theorem dL_law_2810 : decode cL_law 2810 = .ok (.aload_n 0, 1) := dk_42 (dk_at dksL_law_113 14 rfl rfl)
theorem dL_law_2811 : decode cL_law 2811 = .ok (.iload 4, 2) := dk_21 4 (dk_at dksL_law_113 15 rfl rfl)
theorem dL_law_2813 : decode cL_law 2813 = .ok (.iconst 1, 1) := dk_4 (dk_at dksL_law_113 17 rfl rfl)
theorem dL_law_2814 : decode cL_law 2814 = .ok (.iadd, 1) := dk_96 (dk_at dksL_law_113 18 rfl rfl)
theorem dL_law_2815 : decode cL_law 2815 = .ok (.iaload, 1) := dk_46 (dk_at dksL_law_113 19 rfl rfl)
theorem dL_law_2816 : decode cL_law 2816 = .ok (.aload_n 0, 1) := dk_42 (dk_at dksL_law_113 20 rfl rfl)
theorem dL_law_2817 : decode cL_law 2817 = .ok (.iload 4, 2) := dk_21 4 (dk_at dksL_law_113 21 rfl rfl)
theorem dL_law_2819 : decode cL_law 2819 = .ok (.iconst 2, 1) := dk_5 (dk_at dksL_law_113 23 rfl rfl)
theorem dL_law_2820 : decode cL_law 2820 = .ok (.iadd, 1) := dk_96 (dk_at dksL_law_114 0 rfl rfl)
theorem dL_law_2821 : decode cL_law 2821 = .ok (.iaload, 1) := dk_46 (dk_at dksL_law_114 1 rfl rfl)
theorem dL_law_2822 : decode cL_law 2822 = .ok (.invokevirtual 286, 3) := dk_182 1 30 (dk_at dksL_law_114 2 rfl rfl)
theorem dL_law_2825 : decode cL_law 2825 = .ok (.istore 6, 2) := dk_54 6 (dk_at dksL_law_114 5 rfl rfl)
theorem dL_law_2827 : decode cL_law 2827 = .ok (.aload_n 2, 1) := dk_44 (dk_at dksL_law_114 7 rfl rfl)
theorem dL_law_2828 : decode cL_law 2828 = .ok (.invokevirtual 167, 3) := dk_182 0 167 (dk_at dksL_law_114 8 rfl rfl)
theorem dL_law_2831 : decode cL_law 2831 = .ok (.iload 5, 2) := dk_21 5 (dk_at dksL_law_114 11 rfl rfl)
theorem dL_law_2833 : decode cL_law 2833 = .ok (.if_icmp .eq 5, 3) := dk_159 0 5 (dk_at dksL_law_114 13 rfl rfl)
theorem dL_law_2836 : decode cL_law 2836 = .ok (.iconst 0, 1) := dk_3 (dk_at dksL_law_114 16 rfl rfl)
theorem dL_law_2837 : decode cL_law 2837 = .ok (.ireturn, 1) := dk_172 (dk_at dksL_law_114 17 rfl rfl)
theorem dL_law_2838 : decode cL_law 2838 = .ok (.iload 5, 2) := dk_21 5 (dk_at dksL_law_114 18 rfl rfl)
theorem dL_law_2840 : decode cL_law 2840 = .ok (.ifCond .ne 15, 3) := dk_154 0 15 (dk_at dksL_law_114 20 rfl rfl)
theorem dL_law_2843 : decode cL_law 2843 = .ok (.aload_n 3, 1) := dk_45 (dk_at dksL_law_114 23 rfl rfl)
theorem dL_law_2844 : decode cL_law 2844 = .ok (.iconst 0, 1) := dk_3 (dk_at dksL_law_115 0 rfl rfl)
theorem dL_law_2845 : decode cL_law 2845 = .ok (.laload, 1) := dk_47 (dk_at dksL_law_115 1 rfl rfl)
theorem dL_law_2846 : decode cL_law 2846 = .ok (.iload 6, 2) := dk_21 6 (dk_at dksL_law_115 2 rfl rfl)
theorem dL_law_2848 : decode cL_law 2848 = .ok (.i2l, 1) := dk_133 (dk_at dksL_law_115 4 rfl rfl)
theorem dL_law_2849 : decode cL_law 2849 = .ok (.lcmp, 1) := dk_148 (dk_at dksL_law_115 5 rfl rfl)
theorem dL_law_2850 : decode cL_law 2850 = .ok (.ifCond .eq 5, 3) := dk_153 0 5 (dk_at dksL_law_115 6 rfl rfl)
theorem dL_law_2853 : decode cL_law 2853 = .ok (.iconst 0, 1) := dk_3 (dk_at dksL_law_115 9 rfl rfl)
theorem dL_law_2854 : decode cL_law 2854 = .ok (.ireturn, 1) := dk_172 (dk_at dksL_law_115 10 rfl rfl)
theorem dL_law_2855 : decode cL_law 2855 = .ok (.goto 273, 3) := dk_167 1 17 (dk_at dksL_law_115 11 rfl rfl)
theorem dL_law_2858 : decode cL_law 2858 = .ok (.aload_n 1, 1) := dk_43 (dk_at dksL_law_115 14 rfl rfl)
theorem dL_law_2859 : decode cL_law 2859 = .ok (.aload_n 0, 1) := dk_42 (dk_at dksL_law_115 15 rfl rfl)
theorem dL_law_2860 : decode cL_law 2860 = .ok (.iload 4, 2) := dk_21 4 (dk_at dksL_law_115 16 rfl rfl)
theorem dL_law_2862 : decode cL_law 2862 = .ok (.iconst 1, 1) := dk_4 (dk_at dksL_law_115 18 rfl rfl)
theorem dL_law_2863 : decode cL_law 2863 = .ok (.iadd, 1) := dk_96 (dk_at dksL_law_115 19 rfl rfl)
theorem dL_law_2864 : decode cL_law 2864 = .ok (.iaload, 1) := dk_46 (dk_at dksL_law_115 20 rfl rfl)
theorem dL_law_2865 : decode cL_law 2865 = .ok (.aload_n 0, 1) := dk_42 (dk_at dksL_law_115 21 rfl rfl)
theorem dL_law_2866 : decode cL_law 2866 = .ok (.iload 4, 2) := dk_21 4 (dk_at dksL_law_115 22 rfl rfl)
theorem dL_law_2868 : decode cL_law 2868 = .ok (.iconst 2, 1) := dk_5 (dk_at dksL_law_116 0 rfl rfl)
theorem dL_law_2869 : decode cL_law 2869 = .ok (.iadd, 1) := dk_96 (dk_at dksL_law_116 1 rfl rfl)
theorem dL_law_2870 : decode cL_law 2870 = .ok (.iaload, 1) := dk_46 (dk_at dksL_law_116 2 rfl rfl)
theorem dL_law_2871 : decode cL_law 2871 = .ok (.aload_n 0, 1) := dk_42 (dk_at dksL_law_116 3 rfl rfl)
theorem dL_law_2872 : decode cL_law 2872 = .ok (.iload 4, 2) := dk_21 4 (dk_at dksL_law_116 4 rfl rfl)
theorem dL_law_2874 : decode cL_law 2874 = .ok (.iconst 3, 1) := dk_6 (dk_at dksL_law_116 6 rfl rfl)
theorem dL_law_2875 : decode cL_law 2875 = .ok (.iadd, 1) := dk_96 (dk_at dksL_law_116 7 rfl rfl)
theorem dL_law_2876 : decode cL_law 2876 = .ok (.iaload, 1) := dk_46 (dk_at dksL_law_116 8 rfl rfl)
theorem dL_law_2877 : decode cL_law 2877 = .ok (.aload_n 3, 1) := dk_45 (dk_at dksL_law_116 9 rfl rfl)
theorem dL_law_2878 : decode cL_law 2878 = .ok (.invokestatic 287, 3) := dk_184 1 31 (dk_at dksL_law_116 10 rfl rfl)
theorem dL_law_2881 : decode cL_law 2881 = .ok (.istore 5, 2) := dk_54 5 (dk_at dksL_law_116 13 rfl rfl)
theorem dL_law_2883 : decode cL_law 2883 = .ok (.aload_n 2, 1) := dk_44 (dk_at dksL_law_116 15 rfl rfl)
theorem dL_law_2884 : decode cL_law 2884 = .ok (.aload_n 0, 1) := dk_42 (dk_at dksL_law_116 16 rfl rfl)
theorem dL_law_2885 : decode cL_law 2885 = .ok (.iload 4, 2) := dk_21 4 (dk_at dksL_law_116 17 rfl rfl)
theorem dL_law_2887 : decode cL_law 2887 = .ok (.iconst 1, 1) := dk_4 (dk_at dksL_law_116 19 rfl rfl)
theorem dL_law_2888 : decode cL_law 2888 = .ok (.iadd, 1) := dk_96 (dk_at dksL_law_116 20 rfl rfl)
theorem dL_law_2889 : decode cL_law 2889 = .ok (.iaload, 1) := dk_46 (dk_at dksL_law_116 21 rfl rfl)
theorem dL_law_2890 : decode cL_law 2890 = .ok (.aload_n 0, 1) := dk_42 (dk_at dksL_law_116 22 rfl rfl)
theorem dL_law_2891 : decode cL_law 2891 = .ok (.iload 4, 2) := dk_21 4 (dk_at dksL_law_117 0 rfl rfl)
theorem dL_law_2893 : decode cL_law 2893 = .ok (.iconst 2, 1) := dk_5 (dk_at dksL_law_117 2 rfl rfl)
theorem dL_law_2894 : decode cL_law 2894 = .ok (.iadd, 1) := dk_96 (dk_at dksL_law_117 3 rfl rfl)
theorem dL_law_2895 : decode cL_law 2895 = .ok (.iaload, 1) := dk_46 (dk_at dksL_law_117 4 rfl rfl)
theorem dL_law_2896 : decode cL_law 2896 = .ok (.aload_n 0, 1) := dk_42 (dk_at dksL_law_117 5 rfl rfl)
theorem dL_law_2897 : decode cL_law 2897 = .ok (.iload 4, 2) := dk_21 4 (dk_at dksL_law_117 6 rfl rfl)
theorem dL_law_2899 : decode cL_law 2899 = .ok (.iconst 3, 1) := dk_6 (dk_at dksL_law_117 8 rfl rfl)
theorem dL_law_2900 : decode cL_law 2900 = .ok (.iadd, 1) := dk_96 (dk_at dksL_law_117 9 rfl rfl)
theorem dL_law_2901 : decode cL_law 2901 = .ok (.iaload, 1) := dk_46 (dk_at dksL_law_117 10 rfl rfl)
theorem dL_law_2902 : decode cL_law 2902 = .ok (.invokevirtual 289, 3) := dk_182 1 33 (dk_at dksL_law_117 11 rfl rfl)
theorem dL_law_2905 : decode cL_law 2905 = .ok (.istore 6, 2) := dk_54 6 (dk_at dksL_law_117 14 rfl rfl)
theorem dL_law_2907 : decode cL_law 2907 = .ok (.aload_n 2, 1) := dk_44 (dk_at dksL_law_117 16 rfl rfl)
theorem dL_law_2908 : decode cL_law 2908 = .ok (.invokevirtual 167, 3) := dk_182 0 167 (dk_at dksL_law_117 17 rfl rfl)
theorem dL_law_2911 : decode cL_law 2911 = .ok (.iload 5, 2) := dk_21 5 (dk_at dksL_law_117 20 rfl rfl)
theorem dL_law_2913 : decode cL_law 2913 = .ok (.if_icmp .eq 5, 3) := dk_159 0 5 (dk_at dksL_law_118 0 rfl rfl)
theorem dL_law_2916 : decode cL_law 2916 = .ok (.iconst 0, 1) := dk_3 (dk_at dksL_law_118 3 rfl rfl)
theorem dL_law_2917 : decode cL_law 2917 = .ok (.ireturn, 1) := dk_172 (dk_at dksL_law_118 4 rfl rfl)
theorem dL_law_2918 : decode cL_law 2918 = .ok (.iload 5, 2) := dk_21 5 (dk_at dksL_law_118 5 rfl rfl)
theorem dL_law_2920 : decode cL_law 2920 = .ok (.ifCond .ne 15, 3) := dk_154 0 15 (dk_at dksL_law_118 7 rfl rfl)
theorem dL_law_2923 : decode cL_law 2923 = .ok (.aload_n 3, 1) := dk_45 (dk_at dksL_law_118 10 rfl rfl)
theorem dL_law_2924 : decode cL_law 2924 = .ok (.iconst 0, 1) := dk_3 (dk_at dksL_law_118 11 rfl rfl)
theorem dL_law_2925 : decode cL_law 2925 = .ok (.laload, 1) := dk_47 (dk_at dksL_law_118 12 rfl rfl)
theorem dL_law_2926 : decode cL_law 2926 = .ok (.iload 6, 2) := dk_21 6 (dk_at dksL_law_118 13 rfl rfl)
theorem dL_law_2928 : decode cL_law 2928 = .ok (.i2l, 1) := dk_133 (dk_at dksL_law_118 15 rfl rfl)
theorem dL_law_2929 : decode cL_law 2929 = .ok (.lcmp, 1) := dk_148 (dk_at dksL_law_118 16 rfl rfl)
theorem dL_law_2930 : decode cL_law 2930 = .ok (.ifCond .eq 5, 3) := dk_153 0 5 (dk_at dksL_law_118 17 rfl rfl)
theorem dL_law_2933 : decode cL_law 2933 = .ok (.iconst 0, 1) := dk_3 (dk_at dksL_law_118 20 rfl rfl)
theorem dL_law_2934 : decode cL_law 2934 = .ok (.ireturn, 1) := dk_172 (dk_at dksL_law_118 21 rfl rfl)
theorem dL_law_2935 : decode cL_law 2935 = .ok (.goto 193, 3) := dk_167 0 193 (dk_at dksL_law_119 0 rfl rfl)
theorem dL_law_2938 : decode cL_law 2938 = .ok (.aload_n 1, 1) := dk_43 (dk_at dksL_law_119 3 rfl rfl)
theorem dL_law_2939 : decode cL_law 2939 = .ok (.aload_n 0, 1) := dk_42 (dk_at dksL_law_119 4 rfl rfl)
theorem dL_law_2940 : decode cL_law 2940 = .ok (.iload 4, 2) := dk_21 4 (dk_at dksL_law_119 5 rfl rfl)
theorem dL_law_2942 : decode cL_law 2942 = .ok (.iconst 1, 1) := dk_4 (dk_at dksL_law_119 7 rfl rfl)
theorem dL_law_2943 : decode cL_law 2943 = .ok (.iadd, 1) := dk_96 (dk_at dksL_law_119 8 rfl rfl)
theorem dL_law_2944 : decode cL_law 2944 = .ok (.iaload, 1) := dk_46 (dk_at dksL_law_119 9 rfl rfl)
theorem dL_law_2945 : decode cL_law 2945 = .ok (.aload_n 0, 1) := dk_42 (dk_at dksL_law_119 10 rfl rfl)
theorem dL_law_2946 : decode cL_law 2946 = .ok (.iload 4, 2) := dk_21 4 (dk_at dksL_law_119 11 rfl rfl)
theorem dL_law_2948 : decode cL_law 2948 = .ok (.iconst 2, 1) := dk_5 (dk_at dksL_law_119 13 rfl rfl)
theorem dL_law_2949 : decode cL_law 2949 = .ok (.iadd, 1) := dk_96 (dk_at dksL_law_119 14 rfl rfl)
theorem dL_law_2950 : decode cL_law 2950 = .ok (.iaload, 1) := dk_46 (dk_at dksL_law_119 15 rfl rfl)
theorem dL_law_2951 : decode cL_law 2951 = .ok (.aload_n 0, 1) := dk_42 (dk_at dksL_law_119 16 rfl rfl)
theorem dL_law_2952 : decode cL_law 2952 = .ok (.iload 4, 2) := dk_21 4 (dk_at dksL_law_119 17 rfl rfl)
theorem dL_law_2954 : decode cL_law 2954 = .ok (.iconst 3, 1) := dk_6 (dk_at dksL_law_119 19 rfl rfl)
theorem dL_law_2955 : decode cL_law 2955 = .ok (.iadd, 1) := dk_96 (dk_at dksL_law_119 20 rfl rfl)
theorem dL_law_2956 : decode cL_law 2956 = .ok (.iaload, 1) := dk_46 (dk_at dksL_law_119 21 rfl rfl)
theorem dL_law_2957 : decode cL_law 2957 = .ok (.aload_n 3, 1) := dk_45 (dk_at dksL_law_119 22 rfl rfl)
theorem dL_law_2958 : decode cL_law 2958 = .ok (.invokestatic 290, 3) := dk_184 1 34 (dk_at dksL_law_120 0 rfl rfl)
theorem dL_law_2961 : decode cL_law 2961 = .ok (.istore 5, 2) := dk_54 5 (dk_at dksL_law_120 3 rfl rfl)
theorem dL_law_2963 : decode cL_law 2963 = .ok (.aload_n 2, 1) := dk_44 (dk_at dksL_law_120 5 rfl rfl)
theorem dL_law_2964 : decode cL_law 2964 = .ok (.aload_n 0, 1) := dk_42 (dk_at dksL_law_120 6 rfl rfl)
theorem dL_law_2965 : decode cL_law 2965 = .ok (.iload 4, 2) := dk_21 4 (dk_at dksL_law_120 7 rfl rfl)
theorem dL_law_2967 : decode cL_law 2967 = .ok (.iconst 1, 1) := dk_4 (dk_at dksL_law_120 9 rfl rfl)
theorem dL_law_2968 : decode cL_law 2968 = .ok (.iadd, 1) := dk_96 (dk_at dksL_law_120 10 rfl rfl)
theorem dL_law_2969 : decode cL_law 2969 = .ok (.iaload, 1) := dk_46 (dk_at dksL_law_120 11 rfl rfl)
theorem dL_law_2970 : decode cL_law 2970 = .ok (.aload_n 0, 1) := dk_42 (dk_at dksL_law_120 12 rfl rfl)
theorem dL_law_2971 : decode cL_law 2971 = .ok (.iload 4, 2) := dk_21 4 (dk_at dksL_law_120 13 rfl rfl)
theorem dL_law_2973 : decode cL_law 2973 = .ok (.iconst 2, 1) := dk_5 (dk_at dksL_law_120 15 rfl rfl)
theorem dL_law_2974 : decode cL_law 2974 = .ok (.iadd, 1) := dk_96 (dk_at dksL_law_120 16 rfl rfl)
theorem dL_law_2975 : decode cL_law 2975 = .ok (.iaload, 1) := dk_46 (dk_at dksL_law_120 17 rfl rfl)
theorem dL_law_2976 : decode cL_law 2976 = .ok (.aload_n 0, 1) := dk_42 (dk_at dksL_law_120 18 rfl rfl)
theorem dL_law_2977 : decode cL_law 2977 = .ok (.iload 4, 2) := dk_21 4 (dk_at dksL_law_120 19 rfl rfl)
theorem dL_law_2979 : decode cL_law 2979 = .ok (.iconst 3, 1) := dk_6 (dk_at dksL_law_120 21 rfl rfl)
theorem dL_law_2980 : decode cL_law 2980 = .ok (.iadd, 1) := dk_96 (dk_at dksL_law_120 22 rfl rfl)
theorem dL_law_2981 : decode cL_law 2981 = .ok (.iaload, 1) := dk_46 (dk_at dksL_law_120 23 rfl rfl)
theorem dL_law_2982 : decode cL_law 2982 = .ok (.invokevirtual 292, 3) := dk_182 1 36 (dk_at dksL_law_121 0 rfl rfl)
theorem dL_law_2985 : decode cL_law 2985 = .ok (.istore 6, 2) := dk_54 6 (dk_at dksL_law_121 3 rfl rfl)
theorem dL_law_2987 : decode cL_law 2987 = .ok (.aload_n 2, 1) := dk_44 (dk_at dksL_law_121 5 rfl rfl)
theorem dL_law_2988 : decode cL_law 2988 = .ok (.invokevirtual 167, 3) := dk_182 0 167 (dk_at dksL_law_121 6 rfl rfl)
theorem dL_law_2991 : decode cL_law 2991 = .ok (.iload 5, 2) := dk_21 5 (dk_at dksL_law_121 9 rfl rfl)
theorem dL_law_2993 : decode cL_law 2993 = .ok (.if_icmp .eq 5, 3) := dk_159 0 5 (dk_at dksL_law_121 11 rfl rfl)
theorem dL_law_2996 : decode cL_law 2996 = .ok (.iconst 0, 1) := dk_3 (dk_at dksL_law_121 14 rfl rfl)
theorem dL_law_2997 : decode cL_law 2997 = .ok (.ireturn, 1) := dk_172 (dk_at dksL_law_121 15 rfl rfl)
theorem dL_law_2998 : decode cL_law 2998 = .ok (.iload 5, 2) := dk_21 5 (dk_at dksL_law_121 16 rfl rfl)
theorem dL_law_3000 : decode cL_law 3000 = .ok (.ifCond .ne 15, 3) := dk_154 0 15 (dk_at dksL_law_121 18 rfl rfl)
theorem dL_law_3003 : decode cL_law 3003 = .ok (.aload_n 3, 1) := dk_45 (dk_at dksL_law_121 21 rfl rfl)
theorem dL_law_3004 : decode cL_law 3004 = .ok (.iconst 0, 1) := dk_3 (dk_at dksL_law_121 22 rfl rfl)
theorem dL_law_3005 : decode cL_law 3005 = .ok (.laload, 1) := dk_47 (dk_at dksL_law_121 23 rfl rfl)
theorem dL_law_3006 : decode cL_law 3006 = .ok (.iload 6, 2) := dk_21 6 (dk_at dksL_law_122 0 rfl rfl)
theorem dL_law_3008 : decode cL_law 3008 = .ok (.i2l, 1) := dk_133 (dk_at dksL_law_122 2 rfl rfl)
theorem dL_law_3009 : decode cL_law 3009 = .ok (.lcmp, 1) := dk_148 (dk_at dksL_law_122 3 rfl rfl)
theorem dL_law_3010 : decode cL_law 3010 = .ok (.ifCond .eq 5, 3) := dk_153 0 5 (dk_at dksL_law_122 4 rfl rfl)
theorem dL_law_3013 : decode cL_law 3013 = .ok (.iconst 0, 1) := dk_3 (dk_at dksL_law_122 7 rfl rfl)
theorem dL_law_3014 : decode cL_law 3014 = .ok (.ireturn, 1) := dk_172 (dk_at dksL_law_122 8 rfl rfl)
theorem dL_law_3015 : decode cL_law 3015 = .ok (.goto 113, 3) := dk_167 0 113 (dk_at dksL_law_122 9 rfl rfl)
theorem dL_law_3018 : decode cL_law 3018 = .ok (.aload_n 1, 1) := dk_43 (dk_at dksL_law_122 12 rfl rfl)
theorem dL_law_3019 : decode cL_law 3019 = .ok (.aload_n 0, 1) := dk_42 (dk_at dksL_law_122 13 rfl rfl)
theorem dL_law_3020 : decode cL_law 3020 = .ok (.iload 4, 2) := dk_21 4 (dk_at dksL_law_122 14 rfl rfl)
theorem dL_law_3022 : decode cL_law 3022 = .ok (.iconst 1, 1) := dk_4 (dk_at dksL_law_122 16 rfl rfl)
theorem dL_law_3023 : decode cL_law 3023 = .ok (.iadd, 1) := dk_96 (dk_at dksL_law_122 17 rfl rfl)
theorem dL_law_3024 : decode cL_law 3024 = .ok (.iaload, 1) := dk_46 (dk_at dksL_law_122 18 rfl rfl)
theorem dL_law_3025 : decode cL_law 3025 = .ok (.aload_n 3, 1) := dk_45 (dk_at dksL_law_122 19 rfl rfl)
theorem dL_law_3026 : decode cL_law 3026 = .ok (.invokestatic 293, 3) := dk_184 1 37 (dk_at dksL_law_122 20 rfl rfl)
theorem dL_law_3029 : decode cL_law 3029 = .ok (.istore 5, 2) := dk_54 5 (dk_at dksL_law_123 0 rfl rfl)
theorem dL_law_3031 : decode cL_law 3031 = .ok (.aload_n 2, 1) := dk_44 (dk_at dksL_law_123 2 rfl rfl)
theorem dL_law_3032 : decode cL_law 3032 = .ok (.aload_n 0, 1) := dk_42 (dk_at dksL_law_123 3 rfl rfl)
theorem dL_law_3033 : decode cL_law 3033 = .ok (.iload 4, 2) := dk_21 4 (dk_at dksL_law_123 4 rfl rfl)
theorem dL_law_3035 : decode cL_law 3035 = .ok (.iconst 1, 1) := dk_4 (dk_at dksL_law_123 6 rfl rfl)
theorem dL_law_3036 : decode cL_law 3036 = .ok (.iadd, 1) := dk_96 (dk_at dksL_law_123 7 rfl rfl)
theorem dL_law_3037 : decode cL_law 3037 = .ok (.iaload, 1) := dk_46 (dk_at dksL_law_123 8 rfl rfl)
theorem dL_law_3038 : decode cL_law 3038 = .ok (.invokevirtual 295, 3) := dk_182 1 39 (dk_at dksL_law_123 9 rfl rfl)
theorem dL_law_3041 : decode cL_law 3041 = .ok (.lstore 6, 2) := dk_55 6 (dk_at dksL_law_123 12 rfl rfl)
theorem dL_law_3043 : decode cL_law 3043 = .ok (.aload_n 2, 1) := dk_44 (dk_at dksL_law_123 14 rfl rfl)
theorem dL_law_3044 : decode cL_law 3044 = .ok (.invokevirtual 167, 3) := dk_182 0 167 (dk_at dksL_law_123 15 rfl rfl)
theorem dL_law_3047 : decode cL_law 3047 = .ok (.iload 5, 2) := dk_21 5 (dk_at dksL_law_123 18 rfl rfl)
theorem dL_law_3049 : decode cL_law 3049 = .ok (.if_icmp .eq 5, 3) := dk_159 0 5 (dk_at dksL_law_123 20 rfl rfl)
theorem dL_law_3052 : decode cL_law 3052 = .ok (.iconst 0, 1) := dk_3 (dk_at dksL_law_123 23 rfl rfl)
theorem dL_law_3053 : decode cL_law 3053 = .ok (.ireturn, 1) := dk_172 (dk_at dksL_law_124 0 rfl rfl)
theorem dL_law_3054 : decode cL_law 3054 = .ok (.iload 5, 2) := dk_21 5 (dk_at dksL_law_124 1 rfl rfl)
theorem dL_law_3056 : decode cL_law 3056 = .ok (.ifCond .ne 14, 3) := dk_154 0 14 (dk_at dksL_law_124 3 rfl rfl)
theorem dL_law_3059 : decode cL_law 3059 = .ok (.aload_n 3, 1) := dk_45 (dk_at dksL_law_124 6 rfl rfl)
theorem dL_law_3060 : decode cL_law 3060 = .ok (.iconst 0, 1) := dk_3 (dk_at dksL_law_124 7 rfl rfl)
theorem dL_law_3061 : decode cL_law 3061 = .ok (.laload, 1) := dk_47 (dk_at dksL_law_124 8 rfl rfl)
theorem dL_law_3062 : decode cL_law 3062 = .ok (.lload 6, 2) := dk_22 6 (dk_at dksL_law_124 9 rfl rfl)
theorem dL_law_3064 : decode cL_law 3064 = .ok (.lcmp, 1) := dk_148 (dk_at dksL_law_124 11 rfl rfl)
theorem dL_law_3065 : decode cL_law 3065 = .ok (.ifCond .eq 5, 3) := dk_153 0 5 (dk_at dksL_law_124 12 rfl rfl)
theorem dL_law_3068 : decode cL_law 3068 = .ok (.iconst 0, 1) := dk_3 (dk_at dksL_law_124 15 rfl rfl)
theorem dL_law_3069 : decode cL_law 3069 = .ok (.ireturn, 1) := dk_172 (dk_at dksL_law_124 16 rfl rfl)
theorem dL_law_3070 : decode cL_law 3070 = .ok (.goto 58, 3) := dk_167 0 58 (dk_at dksL_law_124 17 rfl rfl)
theorem dL_law_3073 : decode cL_law 3073 = .ok (.aload_n 1, 1) := dk_43 (dk_at dksL_law_124 20 rfl rfl)
theorem dL_law_3074 : decode cL_law 3074 = .ok (.aload_n 0, 1) := dk_42 (dk_at dksL_law_124 21 rfl rfl)
theorem dL_law_3075 : decode cL_law 3075 = .ok (.iload 4, 2) := dk_21 4 (dk_at dksL_law_124 22 rfl rfl)
theorem dL_law_3077 : decode cL_law 3077 = .ok (.iconst 1, 1) := dk_4 (dk_at dksL_law_125 0 rfl rfl)
theorem dL_law_3078 : decode cL_law 3078 = .ok (.iadd, 1) := dk_96 (dk_at dksL_law_125 1 rfl rfl)
theorem dL_law_3079 : decode cL_law 3079 = .ok (.iaload, 1) := dk_46 (dk_at dksL_law_125 2 rfl rfl)
theorem dL_law_3080 : decode cL_law 3080 = .ok (.aload_n 3, 1) := dk_45 (dk_at dksL_law_125 3 rfl rfl)
theorem dL_law_3081 : decode cL_law 3081 = .ok (.invokestatic 296, 3) := dk_184 1 40 (dk_at dksL_law_125 4 rfl rfl)
theorem dL_law_3084 : decode cL_law 3084 = .ok (.istore 5, 2) := dk_54 5 (dk_at dksL_law_125 7 rfl rfl)
theorem dL_law_3086 : decode cL_law 3086 = .ok (.aload_n 2, 1) := dk_44 (dk_at dksL_law_125 9 rfl rfl)
theorem dL_law_3087 : decode cL_law 3087 = .ok (.aload_n 0, 1) := dk_42 (dk_at dksL_law_125 10 rfl rfl)
theorem dL_law_3088 : decode cL_law 3088 = .ok (.iload 4, 2) := dk_21 4 (dk_at dksL_law_125 11 rfl rfl)
theorem dL_law_3090 : decode cL_law 3090 = .ok (.iconst 1, 1) := dk_4 (dk_at dksL_law_125 13 rfl rfl)
theorem dL_law_3091 : decode cL_law 3091 = .ok (.iadd, 1) := dk_96 (dk_at dksL_law_125 14 rfl rfl)
theorem dL_law_3092 : decode cL_law 3092 = .ok (.iaload, 1) := dk_46 (dk_at dksL_law_125 15 rfl rfl)
theorem dL_law_3093 : decode cL_law 3093 = .ok (.invokevirtual 298, 3) := dk_182 1 42 (dk_at dksL_law_125 16 rfl rfl)
theorem dL_law_3096 : decode cL_law 3096 = .ok (.lstore 6, 2) := dk_55 6 (dk_at dksL_law_125 19 rfl rfl)
theorem dL_law_3098 : decode cL_law 3098 = .ok (.aload_n 2, 1) := dk_44 (dk_at dksL_law_125 21 rfl rfl)
theorem dL_law_3099 : decode cL_law 3099 = .ok (.invokevirtual 167, 3) := dk_182 0 167 (dk_at dksL_law_126 0 rfl rfl)
theorem dL_law_3102 : decode cL_law 3102 = .ok (.iload 5, 2) := dk_21 5 (dk_at dksL_law_126 3 rfl rfl)
theorem dL_law_3104 : decode cL_law 3104 = .ok (.if_icmp .eq 5, 3) := dk_159 0 5 (dk_at dksL_law_126 5 rfl rfl)
theorem dL_law_3107 : decode cL_law 3107 = .ok (.iconst 0, 1) := dk_3 (dk_at dksL_law_126 8 rfl rfl)
theorem dL_law_3108 : decode cL_law 3108 = .ok (.ireturn, 1) := dk_172 (dk_at dksL_law_126 9 rfl rfl)
theorem dL_law_3109 : decode cL_law 3109 = .ok (.iload 5, 2) := dk_21 5 (dk_at dksL_law_126 10 rfl rfl)
theorem dL_law_3111 : decode cL_law 3111 = .ok (.ifCond .ne 14, 3) := dk_154 0 14 (dk_at dksL_law_126 12 rfl rfl)
theorem dL_law_3114 : decode cL_law 3114 = .ok (.aload_n 3, 1) := dk_45 (dk_at dksL_law_126 15 rfl rfl)
theorem dL_law_3115 : decode cL_law 3115 = .ok (.iconst 0, 1) := dk_3 (dk_at dksL_law_126 16 rfl rfl)
theorem dL_law_3116 : decode cL_law 3116 = .ok (.laload, 1) := dk_47 (dk_at dksL_law_126 17 rfl rfl)
theorem dL_law_3117 : decode cL_law 3117 = .ok (.lload 6, 2) := dk_22 6 (dk_at dksL_law_126 18 rfl rfl)
theorem dL_law_3119 : decode cL_law 3119 = .ok (.lcmp, 1) := dk_148 (dk_at dksL_law_126 20 rfl rfl)
theorem dL_law_3120 : decode cL_law 3120 = .ok (.ifCond .eq 5, 3) := dk_153 0 5 (dk_at dksL_law_126 21 rfl rfl)
theorem dL_law_3123 : decode cL_law 3123 = .ok (.iconst 0, 1) := dk_3 (dk_at dksL_law_127 0 rfl rfl)
theorem dL_law_3124 : decode cL_law 3124 = .ok (.ireturn, 1) := dk_172 (dk_at dksL_law_127 1 rfl rfl)
theorem dL_law_3125 : decode cL_law 3125 = .ok (.goto 3, 3) := dk_167 0 3 (dk_at dksL_law_127 2 rfl rfl)
theorem dL_law_3128 : decode cL_law 3128 = .ok (.iinc 4 6, 3) := dk_132 4 6 (dk_at dksL_law_127 5 rfl rfl)
theorem dL_law_3131 : decode cL_law 3131 = .ok (.goto (-3108), 3) := dk_167 243 220 (dk_at dksL_law_127 8 rfl rfl)
theorem dL_law_3134 : decode cL_law 3134 = .ok (.iconst 1, 1) := dk_4 (dk_at dksL_law_127 11 rfl rfl)
theorem dL_law_3135 : decode cL_law 3135 = .ok (.ireturn, 1) := dk_172 (dk_at dksL_law_127 12 rfl rfl)

theorem q594 : (Jvm.Cond.arrayClass Jvm.ClassFile.FieldType.byte) ∈ lw_all := lw_g (lw_at lw_m1 87 rfl) rfl
set_option maxRecDepth 100000
theorem q596 : (Jvm.Cond.arrayOver (Jvm.ClassFile.FieldType.object "LibraryDesk$Thing")) ∈ lw_tbl := lw_at lw_m1 89 rfl
theorem q610 : (Jvm.Cond.arrayClass Jvm.ClassFile.FieldType.int) ∈ lw_all := lw_g (lw_at lw_m1 103 rfl) rfl
theorem q663 : (Jvm.Cond.arrayClass Jvm.ClassFile.FieldType.long) ∈ lw_all := lw_g (lw_at lw_m1 156 rfl) rfl
theorem q710 : (Jvm.Cond.arrayClass Jvm.ClassFile.FieldType.boolean) ∈ lw_all := lw_g (lw_at lw_m1 203 rfl) rfl
theorem q4491 : (Jvm.Cond.arrayOver (Jvm.ClassFile.FieldType.array Jvm.ClassFile.FieldType.int)) ∈ lw_tbl := lw_at lw_m17 144 rfl

theorem q557 : (Jvm.Cond.initialized "java/lang/System") ∈ lw_all := lw_g (lw_at lw_m1 50 rfl) rfl
set_option maxRecDepth 100000
theorem q2209 : (Jvm.Cond.static ({ cls := "java/lang/System", name := "arraycopy", desc := "(Ljava/lang/Object;ILjava/lang/Object;II)V" } : Jvm.MethodName)) ∈ lw_all := lw_g (lw_at lw_m8 22 rfl) rfl
theorem q2210 : (Jvm.Cond.native ({ cls := "java/lang/System", name := "arraycopy", desc := "(Ljava/lang/Object;ILjava/lang/Object;II)V" } : Jvm.MethodName)) ∈ lw_all := lw_g (lw_at lw_m8 23 rfl) rfl

