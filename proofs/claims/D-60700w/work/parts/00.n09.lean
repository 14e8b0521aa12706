/-! LibraryDesk$Maps -/
set_option maxRecDepth 100000
def RX20 : String := "LibraryDesk$Maps"
abbrev cX20_init : ByteArray := prog_15_method_1_code
def yX20_init : MethodName := ⟨RX20, "<init>", "(I)V"⟩
def dkwX20_init_0 : List UInt8 := [42, 27, 183, 0, 3, 177]
abbrev dktX20_init_0 : List UInt8 := dkwX20_init_0 ++ []
theorem dksX20_init_0 : cX20_init.data.toList.drop 0 = dktX20_init_0 := by decide +kernel
theorem dX20_init_0 : decode cX20_init 0 = .ok (.aload_n 0, 1) := dk_42 (dk_at dksX20_init_0 0 rfl rfl)
theorem dX20_init_1 : decode cX20_init 1 = .ok (.iload_n 1, 1) := dk_27 (dk_at dksX20_init_0 1 rfl rfl)
theorem dX20_init_2 : decode cX20_init 2 = .ok (.invokespecial 3, 3) := dk_183 0 3 (dk_at dksX20_init_0 2 rfl rfl)
theorem dX20_init_5 : decode cX20_init 5 = .ok (.return_, 1) := dk_177 (dk_at dksX20_init_0 5 rfl rfl)
abbrev cX20_put : ByteArray := prog_15_method_17_code
def yX20_put : MethodName := ⟨RX20, "put", "(IIZZ)J"⟩
def dkwX20_put_2 : List UInt8 := [182, 0, 31, 42, 27, 28, 182, 0, 34, 22, 6, 173]
abbrev dktX20_put_2 : List UInt8 := dkwX20_put_2 ++ []
def dkwX20_put_1 : List UInt8 := [42, 21, 5, 28, 182, 0, 24, 42, 21, 5, 182, 0, 28, 167, 0, 19, 21, 4, 153, 0, 14, 42, 27]
abbrev dktX20_put_1 : List UInt8 := dkwX20_put_1 ++ dktX20_put_2
def dkwX20_put_0 : List UInt8 := [42, 27, 182, 0, 17, 54, 5, 42, 21, 5, 182, 0, 20, 55, 6, 21, 5, 155, 0, 23, 29, 153, 0, 10]
abbrev dktX20_put_0 : List UInt8 := dkwX20_put_0 ++ dktX20_put_1
theorem dksX20_put_0 : cX20_put.data.toList.drop 0 = dktX20_put_0 := by decide +kernel
theorem dksX20_put_1 : cX20_put.data.toList.drop 24 = dktX20_put_1 := dk_seg dksX20_put_0 24 rfl rfl
theorem dksX20_put_2 : cX20_put.data.toList.drop 47 = dktX20_put_2 := dk_seg dksX20_put_1 23 rfl rfl
theorem dX20_put_0 : decode cX20_put 0 = .ok (.aload_n 0, 1) := dk_42 (dk_at dksX20_put_0 0 rfl rfl)
theorem dX20_put_1 : decode cX20_put 1 = .ok (.iload_n 1, 1) := dk_27 (dk_at dksX20_put_0 1 rfl rfl)
theorem dX20_put_2 : decode cX20_put 2 = .ok (.invokevirtual 17, 3) := dk_182 0 17 (dk_at dksX20_put_0 2 rfl rfl)
theorem dX20_put_5 : decode cX20_put 5 = .ok (.istore 5, 2) := dk_54 5 (dk_at dksX20_put_0 5 rfl rfl)
theorem dX20_put_7 : decode cX20_put 7 = .ok (.aload_n 0, 1) := dk_42 (dk_at dksX20_put_0 7 rfl rfl)
theorem dX20_put_8 : decode cX20_put 8 = .ok (.iload 5, 2) := dk_21 5 (dk_at dksX20_put_0 8 rfl rfl)
theorem dX20_put_10 : decode cX20_put 10 = .ok (.invokevirtual 20, 3) := dk_182 0 20 (dk_at dksX20_put_0 10 rfl rfl)
theorem dX20_put_13 : decode cX20_put 13 = .ok (.lstore 6, 2) := dk_55 6 (dk_at dksX20_put_0 13 rfl rfl)
theorem dX20_put_15 : decode cX20_put 15 = .ok (.iload 5, 2) := dk_21 5 (dk_at dksX20_put_0 15 rfl rfl)
theorem dX20_put_17 : decode cX20_put 17 = .ok (.ifCond .lt 23, 3) := dk_155 0 23 (dk_at dksX20_put_0 17 rfl rfl)
theorem dX20_put_20 : decode cX20_put 20 = .ok (.iload_n 3, 1) := dk_29 (dk_at dksX20_put_0 20 rfl rfl)
theorem dX20_put_21 : decode cX20_put 21 = .ok (.ifCond .eq 10, 3) := dk_153 0 10 (dk_at dksX20_put_0 21 rfl rfl)
theorem dX20_put_24 : decode cX20_put 24 = .ok (.aload_n 0, 1) := dk_42 (dk_at dksX20_put_1 0 rfl rfl)
theorem dX20_put_25 : decode cX20_put 25 = .ok (.iload 5, 2) := dk_21 5 (dk_at dksX20_put_1 1 rfl rfl)
theorem dX20_put_27 : decode cX20_put 27 = .ok (.iload_n 2, 1) := dk_28 (dk_at dksX20_put_1 3 rfl rfl)
theorem dX20_put_28 : decode cX20_put 28 = .ok (.invokevirtual 24, 3) := dk_182 0 24 (dk_at dksX20_put_1 4 rfl rfl)
theorem dX20_put_31 : decode cX20_put 31 = .ok (.aload_n 0, 1) := dk_42 (dk_at dksX20_put_1 7 rfl rfl)
theorem dX20_put_32 : decode cX20_put 32 = .ok (.iload 5, 2) := dk_21 5 (dk_at dksX20_put_1 8 rfl rfl)
theorem dX20_put_34 : decode cX20_put 34 = .ok (.invokevirtual 28, 3) := dk_182 0 28 (dk_at dksX20_put_1 10 rfl rfl)
theorem dX20_put_37 : decode cX20_put 37 = .ok (.goto 19, 3) := dk_167 0 19 (dk_at dksX20_put_1 13 rfl rfl)
theorem dX20_put_40 : decode cX20_put 40 = .ok (.iload 4, 2) := dk_21 4 (dk_at dksX20_put_1 16 rfl rfl)
theorem dX20_put_42 : decode cX20_put 42 = .ok (.ifCond .eq 14, 3) := dk_153 0 14 (dk_at dksX20_put_1 18 rfl rfl)
theorem dX20_put_45 : decode cX20_put 45 = .ok (.aload_n 0, 1) := dk_42 (dk_at dksX20_put_1 21 rfl rfl)
theorem dX20_put_46 : decode cX20_put 46 = .ok (.iload_n 1, 1) := dk_27 (dk_at dksX20_put_1 22 rfl rfl)
theorem dX20_put_47 : decode cX20_put 47 = .ok (.invokevirtual 31, 3) := dk_182 0 31 (dk_at dksX20_put_2 0 rfl rfl)
theorem dX20_put_50 : decode cX20_put 50 = .ok (.aload_n 0, 1) := dk_42 (dk_at dksX20_put_2 3 rfl rfl)
theorem dX20_put_51 : decode cX20_put 51 = .ok (.iload_n 1, 1) := dk_27 (dk_at dksX20_put_2 4 rfl rfl)
theorem dX20_put_52 : decode cX20_put 52 = .ok (.iload_n 2, 1) := dk_28 (dk_at dksX20_put_2 5 rfl rfl)
theorem dX20_put_53 : decode cX20_put 53 = .ok (.invokevirtual 34, 3) := dk_182 0 34 (dk_at dksX20_put_2 6 rfl rfl)
theorem dX20_put_56 : decode cX20_put 56 = .ok (.lload 6, 2) := dk_22 6 (dk_at dksX20_put_2 9 rfl rfl)
theorem dX20_put_58 : decode cX20_put 58 = .ok (.lreturn, 1) := dk_173 (dk_at dksX20_put_2 11 rfl rfl)
abbrev cX20_found : ByteArray := prog_15_method_16_code
def yX20_found : MethodName := ⟨RX20, "found", "(I)J"⟩
def dkwX20_found_0 : List UInt8 := [27, 156, 0, 9, 20, 0, 9, 167, 0, 9, 42, 27, 182, 0, 11, 133, 173]
abbrev dktX20_found_0 : List UInt8 := dkwX20_found_0 ++ []
theorem dksX20_found_0 : cX20_found.data.toList.drop 0 = dktX20_found_0 := by decide +kernel
theorem dX20_found_0 : decode cX20_found 0 = .ok (.iload_n 1, 1) := dk_27 (dk_at dksX20_found_0 0 rfl rfl)
theorem dX20_found_1 : decode cX20_found 1 = .ok (.ifCond .ge 9, 3) := dk_156 0 9 (dk_at dksX20_found_0 1 rfl rfl)
theorem dX20_found_4 : decode cX20_found 4 = .ok (.ldc2_w 9, 3) := dk_20 0 9 (dk_at dksX20_found_0 4 rfl rfl)
theorem dX20_found_7 : decode cX20_found 7 = .ok (.goto 9, 3) := dk_167 0 9 (dk_at dksX20_found_0 7 rfl rfl)
theorem dX20_found_10 : decode cX20_found 10 = .ok (.aload_n 0, 1) := dk_42 (dk_at dksX20_found_0 10 rfl rfl)
theorem dX20_found_11 : decode cX20_found 11 = .ok (.iload_n 1, 1) := dk_27 (dk_at dksX20_found_0 11 rfl rfl)
theorem dX20_found_12 : decode cX20_found 12 = .ok (.invokevirtual 11, 3) := dk_182 0 11 (dk_at dksX20_found_0 12 rfl rfl)
theorem dX20_found_15 : decode cX20_found 15 = .ok (.i2l, 1) := dk_133 (dk_at dksX20_found_0 15 rfl rfl)
theorem dX20_found_16 : decode cX20_found 16 = .ok (.lreturn, 1) := dk_173 (dk_at dksX20_found_0 16 rfl rfl)
abbrev cX20_use : ByteArray := prog_15_method_14_code
def yX20_use : MethodName := ⟨RX20, "use", "(I)V"⟩
theorem dX20_use_0 : decode cX20_use 0 = .ok (.return_, 1) := by decide +kernel
abbrev cX20_get : ByteArray := prog_15_method_18_code
def yX20_get : MethodName := ⟨RX20, "get", "(I)J"⟩
def dkwX20_get_1 : List UInt8 := [182, 0, 28, 29, 133, 173]
abbrev dktX20_get_1 : List UInt8 := dkwX20_get_1 ++ []
def dkwX20_get_0 : List UInt8 := [42, 27, 182, 0, 17, 61, 28, 156, 0, 7, 20, 0, 9, 173, 42, 28, 182, 0, 11, 62, 42, 28]
abbrev dktX20_get_0 : List UInt8 := dkwX20_get_0 ++ dktX20_get_1
theorem dksX20_get_0 : cX20_get.data.toList.drop 0 = dktX20_get_0 := by decide +kernel
theorem dksX20_get_1 : cX20_get.data.toList.drop 22 = dktX20_get_1 := dk_seg dksX20_get_0 22 rfl rfl
theorem dX20_get_0 : decode cX20_get 0 = .ok (.aload_n 0, 1) := dk_42 (dk_at dksX20_get_0 0 rfl rfl)
theorem dX20_get_1 : decode cX20_get 1 = .ok (.iload_n 1, 1) := dk_27 (dk_at dksX20_get_0 1 rfl rfl)
theorem dX20_get_2 : decode cX20_get 2 = .ok (.invokevirtual 17, 3) := dk_182 0 17 (dk_at dksX20_get_0 2 rfl rfl)
theorem dX20_get_5 : decode cX20_get 5 = .ok (.istore_n 2, 1) := dk_61 (dk_at dksX20_get_0 5 rfl rfl)
theorem dX20_get_6 : decode cX20_get 6 = .ok (.iload_n 2, 1) := dk_28 (dk_at dksX20_get_0 6 rfl rfl)
theorem dX20_get_7 : decode cX20_get 7 = .ok (.ifCond .ge 7, 3) := dk_156 0 7 (dk_at dksX20_get_0 7 rfl rfl)
theorem dX20_get_10 : decode cX20_get 10 = .ok (.ldc2_w 9, 3) := dk_20 0 9 (dk_at dksX20_get_0 10 rfl rfl)
theorem dX20_get_13 : decode cX20_get 13 = .ok (.lreturn, 1) := dk_173 (dk_at dksX20_get_0 13 rfl rfl)
theorem dX20_get_14 : decode cX20_get 14 = .ok (.aload_n 0, 1) := dk_42 (dk_at dksX20_get_0 14 rfl rfl)
theorem dX20_get_15 : decode cX20_get 15 = .ok (.iload_n 2, 1) := dk_28 (dk_at dksX20_get_0 15 rfl rfl)
theorem dX20_get_16 : decode cX20_get 16 = .ok (.invokevirtual 11, 3) := dk_182 0 11 (dk_at dksX20_get_0 16 rfl rfl)
theorem dX20_get_19 : decode cX20_get 19 = .ok (.istore_n 3, 1) := dk_62 (dk_at dksX20_get_0 19 rfl rfl)
theorem dX20_get_20 : decode cX20_get 20 = .ok (.aload_n 0, 1) := dk_42 (dk_at dksX20_get_0 20 rfl rfl)
theorem dX20_get_21 : decode cX20_get 21 = .ok (.iload_n 2, 1) := dk_28 (dk_at dksX20_get_0 21 rfl rfl)
theorem dX20_get_22 : decode cX20_get 22 = .ok (.invokevirtual 28, 3) := dk_182 0 28 (dk_at dksX20_get_1 0 rfl rfl)
theorem dX20_get_25 : decode cX20_get 25 = .ok (.iload_n 3, 1) := dk_29 (dk_at dksX20_get_1 3 rfl rfl)
theorem dX20_get_26 : decode cX20_get 26 = .ok (.i2l, 1) := dk_133 (dk_at dksX20_get_1 4 rfl rfl)
theorem dX20_get_27 : decode cX20_get 27 = .ok (.lreturn, 1) := dk_173 (dk_at dksX20_get_1 5 rfl rfl)
abbrev cX20_drop : ByteArray := prog_15_method_19_code
def yX20_drop : MethodName := ⟨RX20, "drop", "(I)J"⟩
def dkwX20_drop_0 : List UInt8 := [42, 27, 182, 0, 17, 61, 42, 28, 182, 0, 20, 66, 28, 155, 0, 8, 42, 28, 182, 0, 37, 33, 173]
abbrev dktX20_drop_0 : List UInt8 := dkwX20_drop_0 ++ []
theorem dksX20_drop_0 : cX20_drop.data.toList.drop 0 = dktX20_drop_0 := by decide +kernel
theorem dX20_drop_0 : decode cX20_drop 0 = .ok (.aload_n 0, 1) := dk_42 (dk_at dksX20_drop_0 0 rfl rfl)
theorem dX20_drop_1 : decode cX20_drop 1 = .ok (.iload_n 1, 1) := dk_27 (dk_at dksX20_drop_0 1 rfl rfl)
theorem dX20_drop_2 : decode cX20_drop 2 = .ok (.invokevirtual 17, 3) := dk_182 0 17 (dk_at dksX20_drop_0 2 rfl rfl)
theorem dX20_drop_5 : decode cX20_drop 5 = .ok (.istore_n 2, 1) := dk_61 (dk_at dksX20_drop_0 5 rfl rfl)
theorem dX20_drop_6 : decode cX20_drop 6 = .ok (.aload_n 0, 1) := dk_42 (dk_at dksX20_drop_0 6 rfl rfl)
theorem dX20_drop_7 : decode cX20_drop 7 = .ok (.iload_n 2, 1) := dk_28 (dk_at dksX20_drop_0 7 rfl rfl)
theorem dX20_drop_8 : decode cX20_drop 8 = .ok (.invokevirtual 20, 3) := dk_182 0 20 (dk_at dksX20_drop_0 8 rfl rfl)
theorem dX20_drop_11 : decode cX20_drop 11 = .ok (.lstore_n 3, 1) := dk_66 (dk_at dksX20_drop_0 11 rfl rfl)
theorem dX20_drop_12 : decode cX20_drop 12 = .ok (.iload_n 2, 1) := dk_28 (dk_at dksX20_drop_0 12 rfl rfl)
theorem dX20_drop_13 : decode cX20_drop 13 = .ok (.ifCond .lt 8, 3) := dk_155 0 8 (dk_at dksX20_drop_0 13 rfl rfl)
theorem dX20_drop_16 : decode cX20_drop 16 = .ok (.aload_n 0, 1) := dk_42 (dk_at dksX20_drop_0 16 rfl rfl)
theorem dX20_drop_17 : decode cX20_drop 17 = .ok (.iload_n 2, 1) := dk_28 (dk_at dksX20_drop_0 17 rfl rfl)
theorem dX20_drop_18 : decode cX20_drop 18 = .ok (.invokevirtual 37, 3) := dk_182 0 37 (dk_at dksX20_drop_0 18 rfl rfl)
theorem dX20_drop_21 : decode cX20_drop 21 = .ok (.lload_n 3, 1) := dk_33 (dk_at dksX20_drop_0 21 rfl rfl)
theorem dX20_drop_22 : decode cX20_drop 22 = .ok (.lreturn, 1) := dk_173 (dk_at dksX20_drop_0 22 rfl rfl)
abbrev cX20_more : ByteArray := prog_15_method_20_code
def yX20_more : MethodName := ⟨RX20, "more", "(II)J"⟩
def dkwX20_more_2 : List UInt8 := [29, 21, 4, 182, 0, 24, 42, 29, 182, 0, 28, 21, 4, 133, 173]
abbrev dktX20_more_2 : List UInt8 := dkwX20_more_2 ++ []
def dkwX20_more_1 : List UInt8 := [42, 29, 182, 0, 11, 28, 96, 54, 4, 21, 4, 154, 0, 12, 42, 29, 182, 0, 37, 20, 0, 9, 173, 42]
abbrev dktX20_more_1 : List UInt8 := dkwX20_more_1 ++ dktX20_more_2
def dkwX20_more_0 : List UInt8 := [42, 27, 182, 0, 17, 62, 29, 156, 0, 17, 42, 27, 182, 0, 31, 42, 27, 28, 182, 0, 34, 28, 133, 173]
abbrev dktX20_more_0 : List UInt8 := dkwX20_more_0 ++ dktX20_more_1
theorem dksX20_more_0 : cX20_more.data.toList.drop 0 = dktX20_more_0 := by decide +kernel
theorem dksX20_more_1 : cX20_more.data.toList.drop 24 = dktX20_more_1 := dk_seg dksX20_more_0 24 rfl rfl
theorem dksX20_more_2 : cX20_more.data.toList.drop 48 = dktX20_more_2 := dk_seg dksX20_more_1 24 rfl rfl
theorem dX20_more_0 : decode cX20_more 0 = .ok (.aload_n 0, 1) := dk_42 (dk_at dksX20_more_0 0 rfl rfl)
theorem dX20_more_1 : decode cX20_more 1 = .ok (.iload_n 1, 1) := dk_27 (dk_at dksX20_more_0 1 rfl rfl)
theorem dX20_more_2 : decode cX20_more 2 = .ok (.invokevirtual 17, 3) := dk_182 0 17 (dk_at dksX20_more_0 2 rfl rfl)
theorem dX20_more_5 : decode cX20_more 5 = .ok (.istore_n 3, 1) := dk_62 (dk_at dksX20_more_0 5 rfl rfl)
theorem dX20_more_6 : decode cX20_more 6 = .ok (.iload_n 3, 1) := dk_29 (dk_at dksX20_more_0 6 rfl rfl)
theorem dX20_more_7 : decode cX20_more 7 = .ok (.ifCond .ge 17, 3) := dk_156 0 17 (dk_at dksX20_more_0 7 rfl rfl)
theorem dX20_more_10 : decode cX20_more 10 = .ok (.aload_n 0, 1) := dk_42 (dk_at dksX20_more_0 10 rfl rfl)
theorem dX20_more_11 : decode cX20_more 11 = .ok (.iload_n 1, 1) := dk_27 (dk_at dksX20_more_0 11 rfl rfl)
theorem dX20_more_12 : decode cX20_more 12 = .ok (.invokevirtual 31, 3) := dk_182 0 31 (dk_at dksX20_more_0 12 rfl rfl)
theorem dX20_more_15 : decode cX20_more 15 = .ok (.aload_n 0, 1) := dk_42 (dk_at dksX20_more_0 15 rfl rfl)
theorem dX20_more_16 : decode cX20_more 16 = .ok (.iload_n 1, 1) := dk_27 (dk_at dksX20_more_0 16 rfl rfl)
theorem dX20_more_17 : decode cX20_more 17 = .ok (.iload_n 2, 1) := dk_28 (dk_at dksX20_more_0 17 rfl rfl)
theorem dX20_more_18 : decode cX20_more 18 = .ok (.invokevirtual 34, 3) := dk_182 0 34 (dk_at dksX20_more_0 18 rfl rfl)
theorem dX20_more_21 : decode cX20_more 21 = .ok (.iload_n 2, 1) := dk_28 (dk_at dksX20_more_0 21 rfl rfl)
theorem dX20_more_22 : decode cX20_more 22 = .ok (.i2l, 1) := dk_133 (dk_at dksX20_more_0 22 rfl rfl)
theorem dX20_more_23 : decode cX20_more 23 = .ok (.lreturn, 1) := dk_173 (dk_at dksX20_more_0 23 rfl rfl)
theorem dX20_more_24 : decode cX20_more 24 = .ok (.aload_n 0, 1) := dk_42 (dk_at dksX20_more_1 0 rfl rfl)
theorem dX20_more_25 : decode cX20_more 25 = .ok (.iload_n 3, 1) := dk_29 (dk_at dksX20_more_1 1 rfl rfl)
theorem dX20_more_26 : decode cX20_more 26 = .ok (.invokevirtual 11, 3) := dk_182 0 11 (dk_at dksX20_more_1 2 rfl rfl)
theorem dX20_more_29 : decode cX20_more 29 = .ok (.iload_n 2, 1) := dk_28 (dk_at dksX20_more_1 5 rfl rfl)
theorem dX20_more_30 : decode cX20_more 30 = .ok (.iadd, 1) := dk_96 (dk_at dksX20_more_1 6 rfl rfl)
theorem dX20_more_31 : decode cX20_more 31 = .ok (.istore 4, 2) := dk_54 4 (dk_at dksX20_more_1 7 rfl rfl)
theorem dX20_more_33 : decode cX20_more 33 = .ok (.iload 4, 2) := dk_21 4 (dk_at dksX20_more_1 9 rfl rfl)
theorem dX20_more_35 : decode cX20_more 35 = .ok (.ifCond .ne 12, 3) := dk_154 0 12 (dk_at dksX20_more_1 11 rfl rfl)
theorem dX20_more_38 : decode cX20_more 38 = .ok (.aload_n 0, 1) := dk_42 (dk_at dksX20_more_1 14 rfl rfl)
theorem dX20_more_39 : decode cX20_more 39 = .ok (.iload_n 3, 1) := dk_29 (dk_at dksX20_more_1 15 rfl rfl)
theorem dX20_more_40 : decode cX20_more 40 = .ok (.invokevirtual 37, 3) := dk_182 0 37 (dk_at dksX20_more_1 16 rfl rfl)
theorem dX20_more_43 : decode cX20_more 43 = .ok (.ldc2_w 9, 3) := dk_20 0 9 (dk_at dksX20_more_1 19 rfl rfl)
theorem dX20_more_46 : decode cX20_more 46 = .ok (.lreturn, 1) := dk_173 (dk_at dksX20_more_1 22 rfl rfl)
theorem dX20_more_47 : decode cX20_more 47 = .ok (.aload_n 0, 1) := dk_42 (dk_at dksX20_more_1 23 rfl rfl)
theorem dX20_more_48 : decode cX20_more 48 = .ok (.iload_n 3, 1) := dk_29 (dk_at dksX20_more_2 0 rfl rfl)
theorem dX20_more_49 : decode cX20_more 49 = .ok (.iload 4, 2) := dk_21 4 (dk_at dksX20_more_2 1 rfl rfl)
theorem dX20_more_51 : decode cX20_more 51 = .ok (.invokevirtual 24, 3) := dk_182 0 24 (dk_at dksX20_more_2 3 rfl rfl)
theorem dX20_more_54 : decode cX20_more 54 = .ok (.aload_n 0, 1) := dk_42 (dk_at dksX20_more_2 6 rfl rfl)
theorem dX20_more_55 : decode cX20_more 55 = .ok (.iload_n 3, 1) := dk_29 (dk_at dksX20_more_2 7 rfl rfl)
theorem dX20_more_56 : decode cX20_more 56 = .ok (.invokevirtual 28, 3) := dk_182 0 28 (dk_at dksX20_more_2 8 rfl rfl)
theorem dX20_more_59 : decode cX20_more 59 = .ok (.iload 4, 2) := dk_21 4 (dk_at dksX20_more_2 11 rfl rfl)
theorem dX20_more_61 : decode cX20_more 61 = .ok (.i2l, 1) := dk_133 (dk_at dksX20_more_2 13 rfl rfl)
theorem dX20_more_62 : decode cX20_more 62 = .ok (.lreturn, 1) := dk_173 (dk_at dksX20_more_2 14 rfl rfl)
abbrev cX20_countValue : ByteArray := prog_15_method_21_code
def yX20_countValue : MethodName := ⟨RX20, "countValue", "(I)I"⟩
def dkwX20_countValue_1 : List UInt8 := [29, 182, 0, 44, 62, 167, 255, 234, 28, 172]
abbrev dktX20_countValue_1 : List UInt8 := dkwX20_countValue_1 ++ []
def dkwX20_countValue_0 : List UInt8 := [3, 61, 42, 182, 0, 40, 62, 29, 155, 0, 24, 42, 29, 182, 0, 11, 27, 160, 0, 6, 132, 2, 1, 42]
abbrev dktX20_countValue_0 : List UInt8 := dkwX20_countValue_0 ++ dktX20_countValue_1
theorem dksX20_countValue_0 : cX20_countValue.data.toList.drop 0 = dktX20_countValue_0 := by decide +kernel
theorem dksX20_countValue_1 : cX20_countValue.data.toList.drop 24 = dktX20_countValue_1 := dk_seg dksX20_countValue_0 24 rfl rfl
theorem dX20_countValue_0 : decode cX20_countValue 0 = .ok (.iconst 0, 1) := dk_3 (dk_at dksX20_countValue_0 0 rfl rfl)
theorem dX20_countValue_1 : decode cX20_countValue 1 = .ok (.istore_n 2, 1) := dk_61 (dk_at dksX20_countValue_0 1 rfl rfl)
theorem dX20_countValue_2 : decode cX20_countValue 2 = .ok (.aload_n 0, 1) := dk_42 (dk_at dksX20_countValue_0 2 rfl rfl)
theorem dX20_countValue_3 : decode cX20_countValue 3 = .ok (.invokevirtual 40, 3) := dk_182 0 40 (dk_at dksX20_countValue_0 3 rfl rfl)
theorem dX20_countValue_6 : decode cX20_countValue 6 = .ok (.istore_n 3, 1) := dk_62 (dk_at dksX20_countValue_0 6 rfl rfl)
theorem dX20_countValue_7 : decode cX20_countValue 7 = .ok (.iload_n 3, 1) := dk_29 (dk_at dksX20_countValue_0 7 rfl rfl)
theorem dX20_countValue_8 : decode cX20_countValue 8 = .ok (.ifCond .lt 24, 3) := dk_155 0 24 (dk_at dksX20_countValue_0 8 rfl rfl)
theorem dX20_countValue_11 : decode cX20_countValue 11 = .ok (.aload_n 0, 1) := dk_42 (dk_at dksX20_countValue_0 11 rfl rfl)
theorem dX20_countValue_12 : decode cX20_countValue 12 = .ok (.iload_n 3, 1) := dk_29 (dk_at dksX20_countValue_0 12 rfl rfl)
theorem dX20_countValue_13 : decode cX20_countValue 13 = .ok (.invokevirtual 11, 3) := dk_182 0 11 (dk_at dksX20_countValue_0 13 rfl rfl)
theorem dX20_countValue_16 : decode cX20_countValue 16 = .ok (.iload_n 1, 1) := dk_27 (dk_at dksX20_countValue_0 16 rfl rfl)
theorem dX20_countValue_17 : decode cX20_countValue 17 = .ok (.if_icmp .ne 6, 3) := dk_160 0 6 (dk_at dksX20_countValue_0 17 rfl rfl)
theorem dX20_countValue_20 : decode cX20_countValue 20 = .ok (.iinc 2 1, 3) := dk_132 2 1 (dk_at dksX20_countValue_0 20 rfl rfl)
theorem dX20_countValue_23 : decode cX20_countValue 23 = .ok (.aload_n 0, 1) := dk_42 (dk_at dksX20_countValue_0 23 rfl rfl)
theorem dX20_countValue_24 : decode cX20_countValue 24 = .ok (.iload_n 3, 1) := dk_29 (dk_at dksX20_countValue_1 0 rfl rfl)
theorem dX20_countValue_25 : decode cX20_countValue 25 = .ok (.invokevirtual 44, 3) := dk_182 0 44 (dk_at dksX20_countValue_1 1 rfl rfl)
theorem dX20_countValue_28 : decode cX20_countValue 28 = .ok (.istore_n 3, 1) := dk_62 (dk_at dksX20_countValue_1 4 rfl rfl)
theorem dX20_countValue_29 : decode cX20_countValue 29 = .ok (.goto (-22), 3) := dk_167 255 234 (dk_at dksX20_countValue_1 5 rfl rfl)
theorem dX20_countValue_32 : decode cX20_countValue 32 = .ok (.iload_n 2, 1) := dk_28 (dk_at dksX20_countValue_1 8 rfl rfl)
theorem dX20_countValue_33 : decode cX20_countValue 33 = .ok (.ireturn, 1) := dk_172 (dk_at dksX20_countValue_1 9 rfl rfl)
abbrev cX20_end : ByteArray := prog_15_method_22_code
def yX20_end : MethodName := ⟨RX20, "end", "(ZZ)J"⟩
def dkwX20_end_1 : List UInt8 := [3, 184, 0, 50, 42, 29, 182, 0, 54, 54, 4, 28, 153, 0, 8, 42, 29, 182, 0, 37, 21, 4, 133, 173]
abbrev dktX20_end_1 : List UInt8 := dkwX20_end_1 ++ []
def dkwX20_end_0 : List UInt8 := [27, 153, 0, 10, 42, 182, 0, 40, 167, 0, 7, 42, 182, 0, 47, 62, 29, 155, 0, 7, 4, 167, 0, 4]
abbrev dktX20_end_0 : List UInt8 := dkwX20_end_0 ++ dktX20_end_1
theorem dksX20_end_0 : cX20_end.data.toList.drop 0 = dktX20_end_0 := by decide +kernel
theorem dksX20_end_1 : cX20_end.data.toList.drop 24 = dktX20_end_1 := dk_seg dksX20_end_0 24 rfl rfl
theorem dX20_end_0 : decode cX20_end 0 = .ok (.iload_n 1, 1) := dk_27 (dk_at dksX20_end_0 0 rfl rfl)
theorem dX20_end_1 : decode cX20_end 1 = .ok (.ifCond .eq 10, 3) := dk_153 0 10 (dk_at dksX20_end_0 1 rfl rfl)
theorem dX20_end_4 : decode cX20_end 4 = .ok (.aload_n 0, 1) := dk_42 (dk_at dksX20_end_0 4 rfl rfl)
theorem dX20_end_5 : decode cX20_end 5 = .ok (.invokevirtual 40, 3) := dk_182 0 40 (dk_at dksX20_end_0 5 rfl rfl)
theorem dX20_end_8 : decode cX20_end 8 = .ok (.goto 7, 3) := dk_167 0 7 (dk_at dksX20_end_0 8 rfl rfl)
theorem dX20_end_11 : decode cX20_end 11 = .ok (.aload_n 0, 1) := dk_42 (dk_at dksX20_end_0 11 rfl rfl)
theorem dX20_end_12 : decode cX20_end 12 = .ok (.invokevirtual 47, 3) := dk_182 0 47 (dk_at dksX20_end_0 12 rfl rfl)
theorem dX20_end_15 : decode cX20_end 15 = .ok (.istore_n 3, 1) := dk_62 (dk_at dksX20_end_0 15 rfl rfl)
theorem dX20_end_16 : decode cX20_end 16 = .ok (.iload_n 3, 1) := dk_29 (dk_at dksX20_end_0 16 rfl rfl)
theorem dX20_end_17 : decode cX20_end 17 = .ok (.ifCond .lt 7, 3) := dk_155 0 7 (dk_at dksX20_end_0 17 rfl rfl)
theorem dX20_end_20 : decode cX20_end 20 = .ok (.iconst 1, 1) := dk_4 (dk_at dksX20_end_0 20 rfl rfl)
theorem dX20_end_21 : decode cX20_end 21 = .ok (.goto 4, 3) := dk_167 0 4 (dk_at dksX20_end_0 21 rfl rfl)
theorem dX20_end_24 : decode cX20_end 24 = .ok (.iconst 0, 1) := dk_3 (dk_at dksX20_end_1 0 rfl rfl)
theorem dX20_end_25 : decode cX20_end 25 = .ok (.invokestatic 50, 3) := dk_184 0 50 (dk_at dksX20_end_1 1 rfl rfl)
theorem dX20_end_28 : decode cX20_end 28 = .ok (.aload_n 0, 1) := dk_42 (dk_at dksX20_end_1 4 rfl rfl)
theorem dX20_end_29 : decode cX20_end 29 = .ok (.iload_n 3, 1) := dk_29 (dk_at dksX20_end_1 5 rfl rfl)
theorem dX20_end_30 : decode cX20_end 30 = .ok (.invokevirtual 54, 3) := dk_182 0 54 (dk_at dksX20_end_1 6 rfl rfl)
theorem dX20_end_33 : decode cX20_end 33 = .ok (.istore 4, 2) := dk_54 4 (dk_at dksX20_end_1 9 rfl rfl)
theorem dX20_end_35 : decode cX20_end 35 = .ok (.iload_n 2, 1) := dk_28 (dk_at dksX20_end_1 11 rfl rfl)
theorem dX20_end_36 : decode cX20_end 36 = .ok (.ifCond .eq 8, 3) := dk_153 0 8 (dk_at dksX20_end_1 12 rfl rfl)
theorem dX20_end_39 : decode cX20_end 39 = .ok (.aload_n 0, 1) := dk_42 (dk_at dksX20_end_1 15 rfl rfl)
theorem dX20_end_40 : decode cX20_end 40 = .ok (.iload_n 3, 1) := dk_29 (dk_at dksX20_end_1 16 rfl rfl)
theorem dX20_end_41 : decode cX20_end 41 = .ok (.invokevirtual 37, 3) := dk_182 0 37 (dk_at dksX20_end_1 17 rfl rfl)
theorem dX20_end_44 : decode cX20_end 44 = .ok (.iload 4, 2) := dk_21 4 (dk_at dksX20_end_1 20 rfl rfl)
theorem dX20_end_46 : decode cX20_end 46 = .ok (.i2l, 1) := dk_133 (dk_at dksX20_end_1 22 rfl rfl)
theorem dX20_end_47 : decode cX20_end 47 = .ok (.lreturn, 1) := dk_173 (dk_at dksX20_end_1 23 rfl rfl)
abbrev cX20_hash : ByteArray := prog_15_method_23_code
def yX20_hash : MethodName := ⟨RX20, "hash", "()I"⟩
def dkwX20_hash_1 : List UInt8 := [60, 42, 28, 182, 0, 44, 61, 167, 255, 232, 27, 172]
abbrev dktX20_hash_1 : List UInt8 := dkwX20_hash_1 ++ []
def dkwX20_hash_0 : List UInt8 := [3, 60, 42, 182, 0, 40, 61, 28, 155, 0, 26, 27, 42, 28, 182, 0, 54, 42, 28, 182, 0, 11, 130, 96]
abbrev dktX20_hash_0 : List UInt8 := dkwX20_hash_0 ++ dktX20_hash_1
theorem dksX20_hash_0 : cX20_hash.data.toList.drop 0 = dktX20_hash_0 := by decide +kernel
theorem dksX20_hash_1 : cX20_hash.data.toList.drop 24 = dktX20_hash_1 := dk_seg dksX20_hash_0 24 rfl rfl
theorem dX20_hash_0 : decode cX20_hash 0 = .ok (.iconst 0, 1) := dk_3 (dk_at dksX20_hash_0 0 rfl rfl)
theorem dX20_hash_1 : decode cX20_hash 1 = .ok (.istore_n 1, 1) := dk_60 (dk_at dksX20_hash_0 1 rfl rfl)
theorem dX20_hash_2 : decode cX20_hash 2 = .ok (.aload_n 0, 1) := dk_42 (dk_at dksX20_hash_0 2 rfl rfl)
theorem dX20_hash_3 : decode cX20_hash 3 = .ok (.invokevirtual 40, 3) := dk_182 0 40 (dk_at dksX20_hash_0 3 rfl rfl)
theorem dX20_hash_6 : decode cX20_hash 6 = .ok (.istore_n 2, 1) := dk_61 (dk_at dksX20_hash_0 6 rfl rfl)
theorem dX20_hash_7 : decode cX20_hash 7 = .ok (.iload_n 2, 1) := dk_28 (dk_at dksX20_hash_0 7 rfl rfl)
theorem dX20_hash_8 : decode cX20_hash 8 = .ok (.ifCond .lt 26, 3) := dk_155 0 26 (dk_at dksX20_hash_0 8 rfl rfl)
theorem dX20_hash_11 : decode cX20_hash 11 = .ok (.iload_n 1, 1) := dk_27 (dk_at dksX20_hash_0 11 rfl rfl)
theorem dX20_hash_12 : decode cX20_hash 12 = .ok (.aload_n 0, 1) := dk_42 (dk_at dksX20_hash_0 12 rfl rfl)
theorem dX20_hash_13 : decode cX20_hash 13 = .ok (.iload_n 2, 1) := dk_28 (dk_at dksX20_hash_0 13 rfl rfl)
theorem dX20_hash_14 : decode cX20_hash 14 = .ok (.invokevirtual 54, 3) := dk_182 0 54 (dk_at dksX20_hash_0 14 rfl rfl)
theorem dX20_hash_17 : decode cX20_hash 17 = .ok (.aload_n 0, 1) := dk_42 (dk_at dksX20_hash_0 17 rfl rfl)
theorem dX20_hash_18 : decode cX20_hash 18 = .ok (.iload_n 2, 1) := dk_28 (dk_at dksX20_hash_0 18 rfl rfl)
theorem dX20_hash_19 : decode cX20_hash 19 = .ok (.invokevirtual 11, 3) := dk_182 0 11 (dk_at dksX20_hash_0 19 rfl rfl)
theorem dX20_hash_22 : decode cX20_hash 22 = .ok (.ixor, 1) := dk_130 (dk_at dksX20_hash_0 22 rfl rfl)
theorem dX20_hash_23 : decode cX20_hash 23 = .ok (.iadd, 1) := dk_96 (dk_at dksX20_hash_0 23 rfl rfl)
theorem dX20_hash_24 : decode cX20_hash 24 = .ok (.istore_n 1, 1) := dk_60 (dk_at dksX20_hash_1 0 rfl rfl)
theorem dX20_hash_25 : decode cX20_hash 25 = .ok (.aload_n 0, 1) := dk_42 (dk_at dksX20_hash_1 1 rfl rfl)
theorem dX20_hash_26 : decode cX20_hash 26 = .ok (.iload_n 2, 1) := dk_28 (dk_at dksX20_hash_1 2 rfl rfl)
theorem dX20_hash_27 : decode cX20_hash 27 = .ok (.invokevirtual 44, 3) := dk_182 0 44 (dk_at dksX20_hash_1 3 rfl rfl)
theorem dX20_hash_30 : decode cX20_hash 30 = .ok (.istore_n 2, 1) := dk_61 (dk_at dksX20_hash_1 6 rfl rfl)
theorem dX20_hash_31 : decode cX20_hash 31 = .ok (.goto (-24), 3) := dk_167 255 232 (dk_at dksX20_hash_1 7 rfl rfl)
theorem dX20_hash_34 : decode cX20_hash 34 = .ok (.iload_n 1, 1) := dk_27 (dk_at dksX20_hash_1 10 rfl rfl)
theorem dX20_hash_35 : decode cX20_hash 35 = .ok (.ireturn, 1) := dk_172 (dk_at dksX20_hash_1 11 rfl rfl)
abbrev cX20_same : ByteArray := prog_15_method_24_code
def yX20_same : MethodName := ⟨RX20, "same", "(LLibraryDesk$Maps;)I"⟩
def dkwX20_same_2 : List UInt8 := [159, 0, 5, 3, 172, 42, 28, 182, 0, 44, 61, 167, 255, 217, 4, 172]
abbrev dktX20_same_2 : List UInt8 := dkwX20_same_2 ++ []
def dkwX20_same_1 : List UInt8 := [28, 182, 0, 54, 182, 0, 17, 62, 29, 155, 0, 16, 43, 29, 182, 0, 11, 42, 28, 182, 0, 11]
abbrev dktX20_same_1 : List UInt8 := dkwX20_same_1 ++ dktX20_same_2
def dkwX20_same_0 : List UInt8 := [42, 182, 0, 57, 43, 182, 0, 57, 159, 0, 5, 3, 172, 42, 182, 0, 40, 61, 28, 155, 0, 41, 43, 42]
abbrev dktX20_same_0 : List UInt8 := dkwX20_same_0 ++ dktX20_same_1
theorem dksX20_same_0 : cX20_same.data.toList.drop 0 = dktX20_same_0 := by decide +kernel
theorem dksX20_same_1 : cX20_same.data.toList.drop 24 = dktX20_same_1 := dk_seg dksX20_same_0 24 rfl rfl
theorem dksX20_same_2 : cX20_same.data.toList.drop 46 = dktX20_same_2 := dk_seg dksX20_same_1 22 rfl rfl
theorem dX20_same_0 : decode cX20_same 0 = .ok (.aload_n 0, 1) := dk_42 (dk_at dksX20_same_0 0 rfl rfl)
theorem dX20_same_1 : decode cX20_same 1 = .ok (.invokevirtual 57, 3) := dk_182 0 57 (dk_at dksX20_same_0 1 rfl rfl)
theorem dX20_same_4 : decode cX20_same 4 = .ok (.aload_n 1, 1) := dk_43 (dk_at dksX20_same_0 4 rfl rfl)
theorem dX20_same_5 : decode cX20_same 5 = .ok (.invokevirtual 57, 3) := dk_182 0 57 (dk_at dksX20_same_0 5 rfl rfl)
theorem dX20_same_8 : decode cX20_same 8 = .ok (.if_icmp .eq 5, 3) := dk_159 0 5 (dk_at dksX20_same_0 8 rfl rfl)
theorem dX20_same_11 : decode cX20_same 11 = .ok (.iconst 0, 1) := dk_3 (dk_at dksX20_same_0 11 rfl rfl)
theorem dX20_same_12 : decode cX20_same 12 = .ok (.ireturn, 1) := dk_172 (dk_at dksX20_same_0 12 rfl rfl)
theorem dX20_same_13 : decode cX20_same 13 = .ok (.aload_n 0, 1) := dk_42 (dk_at dksX20_same_0 13 rfl rfl)
theorem dX20_same_14 : decode cX20_same 14 = .ok (.invokevirtual 40, 3) := dk_182 0 40 (dk_at dksX20_same_0 14 rfl rfl)
theorem dX20_same_17 : decode cX20_same 17 = .ok (.istore_n 2, 1) := dk_61 (dk_at dksX20_same_0 17 rfl rfl)
theorem dX20_same_18 : decode cX20_same 18 = .ok (.iload_n 2, 1) := dk_28 (dk_at dksX20_same_0 18 rfl rfl)
theorem dX20_same_19 : decode cX20_same 19 = .ok (.ifCond .lt 41, 3) := dk_155 0 41 (dk_at dksX20_same_0 19 rfl rfl)
theorem dX20_same_22 : decode cX20_same 22 = .ok (.aload_n 1, 1) := dk_43 (dk_at dksX20_same_0 22 rfl rfl)
theorem dX20_same_23 : decode cX20_same 23 = .ok (.aload_n 0, 1) := dk_42 (dk_at dksX20_same_0 23 rfl rfl)
theorem dX20_same_24 : decode cX20_same 24 = .ok (.iload_n 2, 1) := dk_28 (dk_at dksX20_same_1 0 rfl rfl)
theorem dX20_same_25 : decode cX20_same 25 = .ok (.invokevirtual 54, 3) := dk_182 0 54 (dk_at dksX20_same_1 1 rfl rfl)
theorem dX20_same_28 : decode cX20_same 28 = .ok (.invokevirtual 17, 3) := dk_182 0 17 (dk_at dksX20_same_1 4 rfl rfl)
theorem dX20_same_31 : decode cX20_same 31 = .ok (.istore_n 3, 1) := dk_62 (dk_at dksX20_same_1 7 rfl rfl)
theorem dX20_same_32 : decode cX20_same 32 = .ok (.iload_n 3, 1) := dk_29 (dk_at dksX20_same_1 8 rfl rfl)
theorem dX20_same_33 : decode cX20_same 33 = .ok (.ifCond .lt 16, 3) := dk_155 0 16 (dk_at dksX20_same_1 9 rfl rfl)
theorem dX20_same_36 : decode cX20_same 36 = .ok (.aload_n 1, 1) := dk_43 (dk_at dksX20_same_1 12 rfl rfl)
theorem dX20_same_37 : decode cX20_same 37 = .ok (.iload_n 3, 1) := dk_29 (dk_at dksX20_same_1 13 rfl rfl)
theorem dX20_same_38 : decode cX20_same 38 = .ok (.invokevirtual 11, 3) := dk_182 0 11 (dk_at dksX20_same_1 14 rfl rfl)
theorem dX20_same_41 : decode cX20_same 41 = .ok (.aload_n 0, 1) := dk_42 (dk_at dksX20_same_1 17 rfl rfl)
theorem dX20_same_42 : decode cX20_same 42 = .ok (.iload_n 2, 1) := dk_28 (dk_at dksX20_same_1 18 rfl rfl)
theorem dX20_same_43 : decode cX20_same 43 = .ok (.invokevirtual 11, 3) := dk_182 0 11 (dk_at dksX20_same_1 19 rfl rfl)
theorem dX20_same_46 : decode cX20_same 46 = .ok (.if_icmp .eq 5, 3) := dk_159 0 5 (dk_at dksX20_same_2 0 rfl rfl)
theorem dX20_same_49 : decode cX20_same 49 = .ok (.iconst 0, 1) := dk_3 (dk_at dksX20_same_2 3 rfl rfl)
theorem dX20_same_50 : decode cX20_same 50 = .ok (.ireturn, 1) := dk_172 (dk_at dksX20_same_2 4 rfl rfl)
theorem dX20_same_51 : decode cX20_same 51 = .ok (.aload_n 0, 1) := dk_42 (dk_at dksX20_same_2 5 rfl rfl)
theorem dX20_same_52 : decode cX20_same 52 = .ok (.iload_n 2, 1) := dk_28 (dk_at dksX20_same_2 6 rfl rfl)
theorem dX20_same_53 : decode cX20_same 53 = .ok (.invokevirtual 44, 3) := dk_182 0 44 (dk_at dksX20_same_2 7 rfl rfl)
theorem dX20_same_56 : decode cX20_same 56 = .ok (.istore_n 2, 1) := dk_61 (dk_at dksX20_same_2 10 rfl rfl)
theorem dX20_same_57 : decode cX20_same 57 = .ok (.goto (-39), 3) := dk_167 255 217 (dk_at dksX20_same_2 11 rfl rfl)
theorem dX20_same_60 : decode cX20_same 60 = .ok (.iconst 1, 1) := dk_4 (dk_at dksX20_same_2 14 rfl rfl)
theorem dX20_same_61 : decode cX20_same 61 = .ok (.ireturn, 1) := dk_172 (dk_at dksX20_same_2 15 rfl rfl)
theorem q536 : (Jvm.Cond.initialized "LibraryDesk$Maps") ∈ lw_all := lw_g (lw_at lw_m1 29 rfl) rfl
theorem q1438 : (Jvm.Cond.instanceMethod ({ cls := "LibraryDesk$Maps", name := "<init>", desc := "(I)V" } : Jvm.MethodName)) ∈ lw_all := lw_g (lw_at lw_m4 211 rfl) rfl
theorem q1439 : (Jvm.Cond.code ({ cls := "LibraryDesk$Maps", name := "<init>", desc := "(I)V" } : Jvm.MethodName) prog_15_method_1_code (2 : Nat) (Option.none : Option Jvm.ClassFile.FieldType)) ∈ lw_all := lw_g (lw_at lw_m4 212 rfl) rfl
theorem q1440 : (Jvm.Cond.methodLinkNest "LibraryDesk$Maps" (3 : Nat) ({ cls := "LibraryDesk$Thing", name := "<init>", desc := "(I)V" } : Jvm.MethodName) "LibraryDesk") ∈ lw_tbl := lw_at lw_m4 213 rfl
theorem q2317 : (Jvm.Cond.sameMethod "LibraryDesk$Maps" "LibraryDesk$Thing" "kind" "()I") ∈ lw_all := lw_g (lw_at lw_m8 130 rfl) rfl
theorem q2324 : (Jvm.Cond.instanceMethod ({ cls := "LibraryDesk$Maps", name := "put", desc := "(IIZZ)J" } : Jvm.MethodName)) ∈ lw_all := lw_g (lw_at lw_m8 137 rfl) rfl
theorem q2325 : (Jvm.Cond.sameMethod "LibraryDesk$Maps" "LibraryDesk$Maps" "put" "(IIZZ)J") ∈ lw_all := lw_g (lw_at lw_m8 138 rfl) rfl
theorem q2330 : (Jvm.Cond.code ({ cls := "LibraryDesk$Maps", name := "put", desc := "(IIZZ)J" } : Jvm.MethodName) prog_15_method_17_code (8 : Nat) (Option.some Jvm.ClassFile.FieldType.long)) ∈ lw_all := lw_g (lw_at lw_m8 143 rfl) rfl
theorem q2331 : (Jvm.Cond.methodLink "LibraryDesk$Maps" (17 : Nat) ({ cls := "LibraryDesk$Maps", name := "find", desc := "(I)I" } : Jvm.MethodName)) ∈ lw_all := lw_g (lw_at lw_m8 144 rfl) rfl
theorem q2332 : (Jvm.Cond.declares ({ cls := "LibraryDesk$Maps", name := "find", desc := "(I)I" } : Jvm.MethodName)) ∈ lw_tbl := lw_at lw_m8 145 rfl
theorem q2333 : (Jvm.Cond.sameMethod "LibraryDesk$Maps" "LibraryDesk$Maps" "find" "(I)I") ∈ lw_all := lw_g (lw_at lw_m8 146 rfl) rfl
theorem q2376 : (Jvm.Cond.methodLink "LibraryDesk$Maps" (20 : Nat) ({ cls := "LibraryDesk$Maps", name := "found", desc := "(I)J" } : Jvm.MethodName)) ∈ lw_all := lw_g (lw_at lw_m8 189 rfl) rfl
theorem q2377 : (Jvm.Cond.instanceMethod ({ cls := "LibraryDesk$Maps", name := "found", desc := "(I)J" } : Jvm.MethodName)) ∈ lw_all := lw_g (lw_at lw_m8 190 rfl) rfl
theorem q2378 : (Jvm.Cond.sameMethod "LibraryDesk$Maps" "LibraryDesk$Maps" "found" "(I)J") ∈ lw_all := lw_g (lw_at lw_m8 191 rfl) rfl
theorem q2383 : (Jvm.Cond.code ({ cls := "LibraryDesk$Maps", name := "found", desc := "(I)J" } : Jvm.MethodName) prog_15_method_16_code (2 : Nat) (Option.some Jvm.ClassFile.FieldType.long)) ∈ lw_all := lw_g (lw_at lw_m8 196 rfl) rfl
theorem q2384 : (Jvm.Cond.constantLong "LibraryDesk$Maps" (9 : Nat) (1099511627776 : Int64)) ∈ lw_all := lw_g (lw_at lw_m8 197 rfl) rfl
theorem q2385 : (Jvm.Cond.methodLink "LibraryDesk$Maps" (11 : Nat) ({ cls := "LibraryDesk$Maps", name := "value", desc := "(I)I" } : Jvm.MethodName)) ∈ lw_all := lw_g (lw_at lw_m8 198 rfl) rfl
theorem q2386 : (Jvm.Cond.declares ({ cls := "LibraryDesk$Maps", name := "value", desc := "(I)I" } : Jvm.MethodName)) ∈ lw_tbl := lw_at lw_m8 199 rfl
theorem q2387 : (Jvm.Cond.sameMethod "LibraryDesk$Maps" "LibraryDesk$Maps" "value" "(I)I") ∈ lw_all := lw_g (lw_at lw_m8 200 rfl) rfl
theorem q2402 : (Jvm.Cond.methodLink "LibraryDesk$Maps" (24 : Nat) ({ cls := "LibraryDesk$Maps", name := "setValue", desc := "(II)V" } : Jvm.MethodName)) ∈ lw_all := lw_g (lw_at lw_m8 215 rfl) rfl
theorem q2403 : (Jvm.Cond.declares ({ cls := "LibraryDesk$Maps", name := "setValue", desc := "(II)V" } : Jvm.MethodName)) ∈ lw_tbl := lw_at lw_m8 216 rfl
theorem q2404 : (Jvm.Cond.sameMethod "LibraryDesk$Maps" "LibraryDesk$Maps" "setValue" "(II)V") ∈ lw_all := lw_g (lw_at lw_m8 217 rfl) rfl
theorem q2419 : (Jvm.Cond.methodLink "LibraryDesk$Maps" (28 : Nat) ({ cls := "LibraryDesk$Maps", name := "use", desc := "(I)V" } : Jvm.MethodName)) ∈ lw_all := lw_g (lw_at lw_m8 232 rfl) rfl
theorem q2420 : (Jvm.Cond.instanceMethod ({ cls := "LibraryDesk$Maps", name := "use", desc := "(I)V" } : Jvm.MethodName)) ∈ lw_all := lw_g (lw_at lw_m8 233 rfl) rfl
theorem q2421 : (Jvm.Cond.sameMethod "LibraryDesk$Maps" "LibraryDesk$Maps" "use" "(I)V") ∈ lw_all := lw_g (lw_at lw_m8 234 rfl) rfl
theorem q2436 : (Jvm.Cond.code ({ cls := "LibraryDesk$Maps", name := "use", desc := "(I)V" } : Jvm.MethodName) prog_15_method_14_code (2 : Nat) (Option.none : Option Jvm.ClassFile.FieldType)) ∈ lw_all := lw_g (lw_at lw_m9 9 rfl) rfl
theorem q2437 : (Jvm.Cond.methodLink "LibraryDesk$Maps" (31 : Nat) ({ cls := "LibraryDesk$Maps", name := "checkRoom", desc := "(I)V" } : Jvm.MethodName)) ∈ lw_all := lw_g (lw_at lw_m9 10 rfl) rfl
theorem q2438 : (Jvm.Cond.declares ({ cls := "LibraryDesk$Maps", name := "checkRoom", desc := "(I)V" } : Jvm.MethodName)) ∈ lw_tbl := lw_at lw_m9 11 rfl
theorem q2439 : (Jvm.Cond.sameMethod "LibraryDesk$Maps" "LibraryDesk$Maps" "checkRoom" "(I)V") ∈ lw_all := lw_g (lw_at lw_m9 12 rfl) rfl
theorem q2458 : (Jvm.Cond.methodLink "LibraryDesk$Maps" (34 : Nat) ({ cls := "LibraryDesk$Maps", name := "add", desc := "(II)V" } : Jvm.MethodName)) ∈ lw_all := lw_g (lw_at lw_m9 31 rfl) rfl
theorem q2459 : (Jvm.Cond.declares ({ cls := "LibraryDesk$Maps", name := "add", desc := "(II)V" } : Jvm.MethodName)) ∈ lw_tbl := lw_at lw_m9 32 rfl
theorem q2460 : (Jvm.Cond.sameMethod "LibraryDesk$Maps" "LibraryDesk$Maps" "add" "(II)V") ∈ lw_all := lw_g (lw_at lw_m9 33 rfl) rfl
theorem q2518 : (Jvm.Cond.instanceMethod ({ cls := "LibraryDesk$Maps", name := "get", desc := "(I)J" } : Jvm.MethodName)) ∈ lw_all := lw_g (lw_at lw_m9 91 rfl) rfl
theorem q2519 : (Jvm.Cond.sameMethod "LibraryDesk$Maps" "LibraryDesk$Maps" "get" "(I)J") ∈ lw_all := lw_g (lw_at lw_m9 92 rfl) rfl
theorem q2524 : (Jvm.Cond.code ({ cls := "LibraryDesk$Maps", name := "get", desc := "(I)J" } : Jvm.MethodName) prog_15_method_18_code (4 : Nat) (Option.some Jvm.ClassFile.FieldType.long)) ∈ lw_all := lw_g (lw_at lw_m9 97 rfl) rfl
theorem q2526 : (Jvm.Cond.instanceMethod ({ cls := "LibraryDesk$Maps", name := "drop", desc := "(I)J" } : Jvm.MethodName)) ∈ lw_all := lw_g (lw_at lw_m9 99 rfl) rfl
theorem q2527 : (Jvm.Cond.sameMethod "LibraryDesk$Maps" "LibraryDesk$Maps" "drop" "(I)J") ∈ lw_all := lw_g (lw_at lw_m9 100 rfl) rfl
theorem q2532 : (Jvm.Cond.code ({ cls := "LibraryDesk$Maps", name := "drop", desc := "(I)J" } : Jvm.MethodName) prog_15_method_19_code (5 : Nat) (Option.some Jvm.ClassFile.FieldType.long)) ∈ lw_all := lw_g (lw_at lw_m9 105 rfl) rfl
theorem q2533 : (Jvm.Cond.methodLink "LibraryDesk$Maps" (37 : Nat) ({ cls := "LibraryDesk$Maps", name := "remove", desc := "(I)V" } : Jvm.MethodName)) ∈ lw_all := lw_g (lw_at lw_m9 106 rfl) rfl
theorem q2534 : (Jvm.Cond.declares ({ cls := "LibraryDesk$Maps", name := "remove", desc := "(I)V" } : Jvm.MethodName)) ∈ lw_tbl := lw_at lw_m9 107 rfl
theorem q2535 : (Jvm.Cond.sameMethod "LibraryDesk$Maps" "LibraryDesk$Maps" "remove" "(I)V") ∈ lw_all := lw_g (lw_at lw_m9 108 rfl) rfl
theorem q2564 : (Jvm.Cond.declares ({ cls := "LibraryDesk$Maps", name := "size", desc := "()I" } : Jvm.MethodName)) ∈ lw_tbl := lw_at lw_m9 137 rfl
theorem q2565 : (Jvm.Cond.sameMethod "LibraryDesk$Maps" "LibraryDesk$Maps" "size" "()I") ∈ lw_all := lw_g (lw_at lw_m9 138 rfl) rfl
theorem q2626 : (Jvm.Cond.declares ({ cls := "LibraryDesk$Maps", name := "clea\x72", desc := "()V" } : Jvm.MethodName)) ∈ lw_tbl := lw_at lw_m9 199 rfl
theorem q2627 : (Jvm.Cond.sameMethod "LibraryDesk$Maps" "LibraryDesk$Maps" "clea\x72" "()V") ∈ lw_all := lw_g (lw_at lw_m9 200 rfl) rfl
theorem q2641 : (Jvm.Cond.instanceMethod ({ cls := "LibraryDesk$Maps", name := "more", desc := "(II)J" } : Jvm.MethodName)) ∈ lw_all := lw_g (lw_at lw_m9 214 rfl) rfl
theorem q2642 : (Jvm.Cond.sameMethod "LibraryDesk$Maps" "LibraryDesk$Maps" "more" "(II)J") ∈ lw_all := lw_g (lw_at lw_m9 215 rfl) rfl
theorem q2647 : (Jvm.Cond.code ({ cls := "LibraryDesk$Maps", name := "more", desc := "(II)J" } : Jvm.MethodName) prog_15_method_20_code (5 : Nat) (Option.some Jvm.ClassFile.FieldType.long)) ∈ lw_all := lw_g (lw_at lw_m9 220 rfl) rfl
theorem q2649 : (Jvm.Cond.instanceMethod ({ cls := "LibraryDesk$Maps", name := "countValue", desc := "(I)I" } : Jvm.MethodName)) ∈ lw_all := lw_g (lw_at lw_m9 222 rfl) rfl
theorem q2650 : (Jvm.Cond.sameMethod "LibraryDesk$Maps" "LibraryDesk$Maps" "countValue" "(I)I") ∈ lw_all := lw_g (lw_at lw_m9 223 rfl) rfl
theorem q2655 : (Jvm.Cond.code ({ cls := "LibraryDesk$Maps", name := "countValue", desc := "(I)I" } : Jvm.MethodName) prog_15_method_21_code (4 : Nat) (Option.some Jvm.ClassFile.FieldType.int)) ∈ lw_all := lw_g (lw_at lw_m9 228 rfl) rfl
theorem q2656 : (Jvm.Cond.methodLink "LibraryDesk$Maps" (40 : Nat) ({ cls := "LibraryDesk$Maps", name := "first", desc := "()I" } : Jvm.MethodName)) ∈ lw_all := lw_g (lw_at lw_m9 229 rfl) rfl
theorem q2657 : (Jvm.Cond.declares ({ cls := "LibraryDesk$Maps", name := "first", desc := "()I" } : Jvm.MethodName)) ∈ lw_tbl := lw_at lw_m9 230 rfl
theorem q2658 : (Jvm.Cond.sameMethod "LibraryDesk$Maps" "LibraryDesk$Maps" "first" "()I") ∈ lw_all := lw_g (lw_at lw_m9 231 rfl) rfl
theorem q2671 : (Jvm.Cond.methodLink "LibraryDesk$Maps" (44 : Nat) ({ cls := "LibraryDesk$Maps", name := "next", desc := "(I)I" } : Jvm.MethodName)) ∈ lw_all := lw_g (lw_at lw_m10 4 rfl) rfl
theorem q2672 : (Jvm.Cond.declares ({ cls := "LibraryDesk$Maps", name := "next", desc := "(I)I" } : Jvm.MethodName)) ∈ lw_tbl := lw_at lw_m10 5 rfl
theorem q2673 : (Jvm.Cond.sameMethod "LibraryDesk$Maps" "LibraryDesk$Maps" "next" "(I)I") ∈ lw_all := lw_g (lw_at lw_m10 6 rfl) rfl
theorem q2683 : (Jvm.Cond.instanceMethod ({ cls := "LibraryDesk$Maps", name := "end", desc := "(ZZ)J" } : Jvm.MethodName)) ∈ lw_all := lw_g (lw_at lw_m10 16 rfl) rfl
theorem q2684 : (Jvm.Cond.sameMethod "LibraryDesk$Maps" "LibraryDesk$Maps" "end" "(ZZ)J") ∈ lw_all := lw_g (lw_at lw_m10 17 rfl) rfl
theorem q2689 : (Jvm.Cond.code ({ cls := "LibraryDesk$Maps", name := "end", desc := "(ZZ)J" } : Jvm.MethodName) prog_15_method_22_code (5 : Nat) (Option.some Jvm.ClassFile.FieldType.long)) ∈ lw_all := lw_g (lw_at lw_m10 22 rfl) rfl
theorem q2690 : (Jvm.Cond.methodLink "LibraryDesk$Maps" (47 : Nat) ({ cls := "LibraryDesk$Maps", name := "last", desc := "()I" } : Jvm.MethodName)) ∈ lw_all := lw_g (lw_at lw_m10 23 rfl) rfl
theorem q2691 : (Jvm.Cond.declares ({ cls := "LibraryDesk$Maps", name := "last", desc := "()I" } : Jvm.MethodName)) ∈ lw_tbl := lw_at lw_m10 24 rfl
theorem q2692 : (Jvm.Cond.sameMethod "LibraryDesk$Maps" "LibraryDesk$Maps" "last" "()I") ∈ lw_all := lw_g (lw_at lw_m10 25 rfl) rfl
theorem q2705 : (Jvm.Cond.methodLinkNest "LibraryDesk$Maps" (50 : Nat) ({ cls := "LibraryDesk", name := "there", desc := "(Z)V" } : Jvm.MethodName) "LibraryDesk") ∈ lw_tbl := lw_at lw_m10 38 rfl
theorem q2706 : (Jvm.Cond.methodLink "LibraryDesk$Maps" (54 : Nat) ({ cls := "LibraryDesk$Maps", name := "key", desc := "(I)I" } : Jvm.MethodName)) ∈ lw_all := lw_g (lw_at lw_m10 39 rfl) rfl
theorem q2707 : (Jvm.Cond.declares ({ cls := "LibraryDesk$Maps", name := "key", desc := "(I)I" } : Jvm.MethodName)) ∈ lw_tbl := lw_at lw_m10 40 rfl
theorem q2708 : (Jvm.Cond.sameMethod "LibraryDesk$Maps" "LibraryDesk$Maps" "key" "(I)I") ∈ lw_all := lw_g (lw_at lw_m10 41 rfl) rfl
theorem q2720 : (Jvm.Cond.instanceMethod ({ cls := "LibraryDesk$Maps", name := "hash", desc := "()I" } : Jvm.MethodName)) ∈ lw_all := lw_g (lw_at lw_m10 53 rfl) rfl
theorem q2721 : (Jvm.Cond.sameMethod "LibraryDesk$Maps" "LibraryDesk$Maps" "hash" "()I") ∈ lw_all := lw_g (lw_at lw_m10 54 rfl) rfl
theorem q2726 : (Jvm.Cond.code ({ cls := "LibraryDesk$Maps", name := "hash", desc := "()I" } : Jvm.MethodName) prog_15_method_23_code (3 : Nat) (Option.some Jvm.ClassFile.FieldType.int)) ∈ lw_all := lw_g (lw_at lw_m10 59 rfl) rfl
theorem q2728 : (Jvm.Cond.instanceMethod ({ cls := "LibraryDesk$Maps", name := "same", desc := "(LLibraryDesk$Maps;)I" } : Jvm.MethodName)) ∈ lw_all := lw_g (lw_at lw_m10 61 rfl) rfl
theorem q2729 : (Jvm.Cond.sameMethod "LibraryDesk$Maps" "LibraryDesk$Maps" "same" "(LLibraryDesk$Maps;)I") ∈ lw_all := lw_g (lw_at lw_m10 62 rfl) rfl
theorem q2734 : (Jvm.Cond.code ({ cls := "LibraryDesk$Maps", name := "same", desc := "(LLibraryDesk$Maps;)I" } : Jvm.MethodName) prog_15_method_24_code (4 : Nat) (Option.some Jvm.ClassFile.FieldType.int)) ∈ lw_all := lw_g (lw_at lw_m10 67 rfl) rfl
theorem q2735 : (Jvm.Cond.methodLink "LibraryDesk$Maps" (57 : Nat) ({ cls := "LibraryDesk$Maps", name := "size", desc := "()I" } : Jvm.MethodName)) ∈ lw_all := lw_g (lw_at lw_m10 68 rfl) rfl
theorem q2841 : (Jvm.Cond.declares ({ cls := "LibraryDesk$Maps", name := "changes", desc := "()I" } : Jvm.MethodName)) ∈ lw_tbl := lw_at lw_m10 174 rfl
theorem q2842 : (Jvm.Cond.sameMethod "LibraryDesk$Maps" "LibraryDesk$Maps" "changes" "()I") ∈ lw_all := lw_g (lw_at lw_m10 175 rfl) rfl
theorem q4116 : (Jvm.Cond.declares ({ cls := "LibraryDesk$Maps", name := "more", desc := "(II)J" } : Jvm.MethodName)) ∈ lw_tbl := lw_at lw_m16 9 rfl

/-! LibraryDesk$HashThing -/
set_option maxRecDepth 100000
def RX21 : String := "LibraryDesk$HashThing"
def TX21 : u_T := fun k => match k with
  | 0 => ("LibraryDesk$Thing", "kind", "I", true)
  | 1 => ("LibraryDesk$Thing", "used", "Z", false)
  | 2 => ("LibraryDesk$HashThing", "slots", "LLibraryDesk$Slots;", true)
  | 3 => ("LibraryDesk$HashThing", "heads", "[I", true)
  | 4 => ("LibraryDesk$HashThing", "tails", "[I", true)
  | 5 => ("LibraryDesk$HashThing", "counts", "[I", true)
  | 6 => ("LibraryDesk$HashThing", "bushy", "[Z", true)
  | 7 => ("LibraryDesk$HashThing", "table", "I", false)
  | 8 => ("LibraryDesk$HashThing", "asked", "I", false)
  | 9 => ("LibraryDesk$HashThing", "rule", "I", false)
  | _ => ("LibraryDesk$HashThing", "changes", "I", false)
def tyX21 : Nat → FieldType := fun k => match k with
  | 0 => .int
  | 1 => .boolean
  | 2 => .object "LibraryDesk$Slots"
  | 3 => .array .int
  | 4 => .array .int
  | 5 => .array .int
  | 6 => .array .boolean
  | 7 => .int
  | 8 => .int
  | 9 => .int
  | _ => .int
abbrev wsX210 : List Cond := u_ws RX21 TX21 11
theorem nmX21 : ∀ a, a < 11 → ∀ b, b < 11 → a ≠ b → (TX21 a).2.1 ≠ (TX21 b).2.1 := by decide +kernel
theorem tyX21_ok : ∀ k, k < 11 → parseFieldDescriptor (TX21 k).2.2.1 = some (tyX21 k) := by decide +kernel
abbrev cX21_init : ByteArray := prog_10_method_1_code
def yX21_init : MethodName := ⟨RX21, "<init>", "()V"⟩
def dkwX21_init_2 : List UInt8 := [17, 8, 0, 188, 4, 181, 0, 28, 177]
abbrev dktX21_init_2 : List UInt8 := dkwX21_init_2 ++ []
def dkwX21_init_1 : List UInt8 := [188, 10, 181, 0, 18, 42, 17, 8, 0, 188, 10, 181, 0, 22, 42, 17, 8, 0, 188, 10, 181, 0, 25, 42]
abbrev dktX21_init_1 : List UInt8 := dkwX21_init_1 ++ dktX21_init_2
def dkwX21_init_0 : List UInt8 := [42, 5, 183, 0, 3, 42, 187, 0, 9, 89, 17, 3, 232, 183, 0, 11, 181, 0, 12, 42, 17, 8, 0]
abbrev dktX21_init_0 : List UInt8 := dkwX21_init_0 ++ dktX21_init_1
theorem dksX21_init_0 : cX21_init.data.toList.drop 0 = dktX21_init_0 := by decide +kernel
theorem dksX21_init_1 : cX21_init.data.toList.drop 23 = dktX21_init_1 := dk_seg dksX21_init_0 23 rfl rfl
theorem dksX21_init_2 : cX21_init.data.toList.drop 47 = dktX21_init_2 := dk_seg dksX21_init_1 24 rfl rfl
theorem dX21_init_0 : decode cX21_init 0 = .ok (.aload_n 0, 1) := dk_42 (dk_at dksX21_init_0 0 rfl rfl)
theorem dX21_init_1 : decode cX21_init 1 = .ok (.iconst 2, 1) := dk_5 (dk_at dksX21_init_0 1 rfl rfl)
theorem dX21_init_2 : decode cX21_init 2 = .ok (.invokespecial 3, 3) := dk_183 0 3 (dk_at dksX21_init_0 2 rfl rfl)
theorem dX21_init_5 : decode cX21_init 5 = .ok (.aload_n 0, 1) := dk_42 (dk_at dksX21_init_0 5 rfl rfl)
theorem dX21_init_6 : decode cX21_init 6 = .ok (.new 9, 3) := dk_187 0 9 (dk_at dksX21_init_0 6 rfl rfl)
theorem dX21_init_9 : decode cX21_init 9 = .ok (.dup, 1) := dk_89 (dk_at dksX21_init_0 9 rfl rfl)
theorem dX21_init_10 : decode cX21_init 10 = .ok (.sipush 1000, 3) := dk_17 3 232 (dk_at dksX21_init_0 10 rfl rfl)
theorem dX21_init_13 : decode cX21_init 13 = .ok (.invokespecial 11, 3) := dk_183 0 11 (dk_at dksX21_init_0 13 rfl rfl)
theorem dX21_init_16 : decode cX21_init 16 = .ok (.putfield 12, 3) := dk_181 0 12 (dk_at dksX21_init_0 16 rfl rfl)
theorem dX21_init_19 : decode cX21_init 19 = .ok (.aload_n 0, 1) := dk_42 (dk_at dksX21_init_0 19 rfl rfl)
theorem dX21_init_20 : decode cX21_init 20 = .ok (.sipush 2048, 3) := dk_17 8 0 (dk_at dksX21_init_0 20 rfl rfl)
theorem dX21_init_23 : decode cX21_init 23 = .ok (.newarray .int, 2) := dk_188_10 (dk_at dksX21_init_1 0 rfl rfl)
theorem dX21_init_25 : decode cX21_init 25 = .ok (.putfield 18, 3) := dk_181 0 18 (dk_at dksX21_init_1 2 rfl rfl)
theorem dX21_init_28 : decode cX21_init 28 = .ok (.aload_n 0, 1) := dk_42 (dk_at dksX21_init_1 5 rfl rfl)
theorem dX21_init_29 : decode cX21_init 29 = .ok (.sipush 2048, 3) := dk_17 8 0 (dk_at dksX21_init_1 6 rfl rfl)
theorem dX21_init_32 : decode cX21_init 32 = .ok (.newarray .int, 2) := dk_188_10 (dk_at dksX21_init_1 9 rfl rfl)
theorem dX21_init_34 : decode cX21_init 34 = .ok (.putfield 22, 3) := dk_181 0 22 (dk_at dksX21_init_1 11 rfl rfl)
theorem dX21_init_37 : decode cX21_init 37 = .ok (.aload_n 0, 1) := dk_42 (dk_at dksX21_init_1 14 rfl rfl)
theorem dX21_init_38 : decode cX21_init 38 = .ok (.sipush 2048, 3) := dk_17 8 0 (dk_at dksX21_init_1 15 rfl rfl)
theorem dX21_init_41 : decode cX21_init 41 = .ok (.newarray .int, 2) := dk_188_10 (dk_at dksX21_init_1 18 rfl rfl)
theorem dX21_init_43 : decode cX21_init 43 = .ok (.putfield 25, 3) := dk_181 0 25 (dk_at dksX21_init_1 20 rfl rfl)
theorem dX21_init_46 : decode cX21_init 46 = .ok (.aload_n 0, 1) := dk_42 (dk_at dksX21_init_1 23 rfl rfl)
theorem dX21_init_47 : decode cX21_init 47 = .ok (.sipush 2048, 3) := dk_17 8 0 (dk_at dksX21_init_2 0 rfl rfl)
theorem dX21_init_50 : decode cX21_init 50 = .ok (.newarray .boolean, 2) := dk_188_4 (dk_at dksX21_init_2 3 rfl rfl)
theorem dX21_init_52 : decode cX21_init 52 = .ok (.putfield 28, 3) := dk_181 0 28 (dk_at dksX21_init_2 5 rfl rfl)
theorem dX21_init_55 : decode cX21_init 55 = .ok (.return_, 1) := dk_177 (dk_at dksX21_init_2 8 rfl rfl)
abbrev cX21_begin : ByteArray := prog_10_method_2_code
def yX21_begin : MethodName := ⟨RX21, "begin", "(II)V"⟩
def dkwX21_begin_1 : List UInt8 := [181, 0, 46, 177]
abbrev dktX21_begin_1 : List UInt8 := dkwX21_begin_1 ++ []
def dkwX21_begin_0 : List UInt8 := [42, 180, 0, 12, 182, 0, 32, 42, 3, 181, 0, 36, 42, 27, 181, 0, 40, 42, 28, 181, 0, 43, 42, 3]
abbrev dktX21_begin_0 : List UInt8 := dkwX21_begin_0 ++ dktX21_begin_1
theorem dksX21_begin_0 : cX21_begin.data.toList.drop 0 = dktX21_begin_0 := by decide +kernel
theorem dksX21_begin_1 : cX21_begin.data.toList.drop 24 = dktX21_begin_1 := dk_seg dksX21_begin_0 24 rfl rfl
theorem dX21_begin_0 : decode cX21_begin 0 = .ok (.aload_n 0, 1) := dk_42 (dk_at dksX21_begin_0 0 rfl rfl)
theorem dX21_begin_1 : decode cX21_begin 1 = .ok (.getfield 12, 3) := dk_180 0 12 (dk_at dksX21_begin_0 1 rfl rfl)
theorem dX21_begin_4 : decode cX21_begin 4 = .ok (.invokevirtual 32, 3) := dk_182 0 32 (dk_at dksX21_begin_0 4 rfl rfl)
theorem dX21_begin_7 : decode cX21_begin 7 = .ok (.aload_n 0, 1) := dk_42 (dk_at dksX21_begin_0 7 rfl rfl)
theorem dX21_begin_8 : decode cX21_begin 8 = .ok (.iconst 0, 1) := dk_3 (dk_at dksX21_begin_0 8 rfl rfl)
theorem dX21_begin_9 : decode cX21_begin 9 = .ok (.putfield 36, 3) := dk_181 0 36 (dk_at dksX21_begin_0 9 rfl rfl)
theorem dX21_begin_12 : decode cX21_begin 12 = .ok (.aload_n 0, 1) := dk_42 (dk_at dksX21_begin_0 12 rfl rfl)
theorem dX21_begin_13 : decode cX21_begin 13 = .ok (.iload_n 1, 1) := dk_27 (dk_at dksX21_begin_0 13 rfl rfl)
theorem dX21_begin_14 : decode cX21_begin 14 = .ok (.putfield 40, 3) := dk_181 0 40 (dk_at dksX21_begin_0 14 rfl rfl)
theorem dX21_begin_17 : decode cX21_begin 17 = .ok (.aload_n 0, 1) := dk_42 (dk_at dksX21_begin_0 17 rfl rfl)
theorem dX21_begin_18 : decode cX21_begin 18 = .ok (.iload_n 2, 1) := dk_28 (dk_at dksX21_begin_0 18 rfl rfl)
theorem dX21_begin_19 : decode cX21_begin 19 = .ok (.putfield 43, 3) := dk_181 0 43 (dk_at dksX21_begin_0 19 rfl rfl)
theorem dX21_begin_22 : decode cX21_begin 22 = .ok (.aload_n 0, 1) := dk_42 (dk_at dksX21_begin_0 22 rfl rfl)
theorem dX21_begin_23 : decode cX21_begin 23 = .ok (.iconst 0, 1) := dk_3 (dk_at dksX21_begin_0 23 rfl rfl)
theorem dX21_begin_24 : decode cX21_begin 24 = .ok (.putfield 46, 3) := dk_181 0 46 (dk_at dksX21_begin_1 0 rfl rfl)
theorem dX21_begin_27 : decode cX21_begin 27 = .ok (.return_, 1) := dk_177 (dk_at dksX21_begin_1 3 rfl rfl)
abbrev cX21_find : ByteArray := prog_10_method_7_code
def yX21_find : MethodName := ⟨RX21, "find", "(I)I"⟩
def dkwX21_find_2 : List UInt8 := [167, 255, 229, 28, 172]
abbrev dktX21_find_2 : List UInt8 := dkwX21_find_2 ++ []
def dkwX21_find_1 : List UInt8 := [42, 180, 0, 12, 180, 0, 61, 28, 46, 27, 159, 0, 16, 42, 180, 0, 12, 180, 0, 64, 28, 46, 61]
abbrev dktX21_find_1 : List UInt8 := dkwX21_find_1 ++ dktX21_find_2
def dkwX21_find_0 : List UInt8 := [42, 180, 0, 36, 154, 0, 5, 2, 172, 42, 180, 0, 18, 42, 27, 182, 0, 57, 46, 61, 28, 155, 0, 29]
abbrev dktX21_find_0 : List UInt8 := dkwX21_find_0 ++ dktX21_find_1
theorem dksX21_find_0 : cX21_find.data.toList.drop 0 = dktX21_find_0 := by decide +kernel
theorem dksX21_find_1 : cX21_find.data.toList.drop 24 = dktX21_find_1 := dk_seg dksX21_find_0 24 rfl rfl
theorem dksX21_find_2 : cX21_find.data.toList.drop 47 = dktX21_find_2 := dk_seg dksX21_find_1 23 rfl rfl
theorem dX21_find_0 : decode cX21_find 0 = .ok (.aload_n 0, 1) := dk_42 (dk_at dksX21_find_0 0 rfl rfl)
theorem dX21_find_1 : decode cX21_find 1 = .ok (.getfield 36, 3) := dk_180 0 36 (dk_at dksX21_find_0 1 rfl rfl)
theorem dX21_find_4 : decode cX21_find 4 = .ok (.ifCond .ne 5, 3) := dk_154 0 5 (dk_at dksX21_find_0 4 rfl rfl)
theorem dX21_find_7 : decode cX21_find 7 = .ok (.iconst (-1), 1) := dk_2 (dk_at dksX21_find_0 7 rfl rfl)
theorem dX21_find_8 : decode cX21_find 8 = .ok (.ireturn, 1) := dk_172 (dk_at dksX21_find_0 8 rfl rfl)
theorem dX21_find_9 : decode cX21_find 9 = .ok (.aload_n 0, 1) := dk_42 (dk_at dksX21_find_0 9 rfl rfl)
theorem dX21_find_10 : decode cX21_find 10 = .ok (.getfield 18, 3) := dk_180 0 18 (dk_at dksX21_find_0 10 rfl rfl)
theorem dX21_find_13 : decode cX21_find 13 = .ok (.aload_n 0, 1) := dk_42 (dk_at dksX21_find_0 13 rfl rfl)
theorem dX21_find_14 : decode cX21_find 14 = .ok (.iload_n 1, 1) := dk_27 (dk_at dksX21_find_0 14 rfl rfl)
theorem dX21_find_15 : decode cX21_find 15 = .ok (.invokevirtual 57, 3) := dk_182 0 57 (dk_at dksX21_find_0 15 rfl rfl)
theorem dX21_find_18 : decode cX21_find 18 = .ok (.iaload, 1) := dk_46 (dk_at dksX21_find_0 18 rfl rfl)
theorem dX21_find_19 : decode cX21_find 19 = .ok (.istore_n 2, 1) := dk_61 (dk_at dksX21_find_0 19 rfl rfl)
theorem dX21_find_20 : decode cX21_find 20 = .ok (.iload_n 2, 1) := dk_28 (dk_at dksX21_find_0 20 rfl rfl)
theorem dX21_find_21 : decode cX21_find 21 = .ok (.ifCond .lt 29, 3) := dk_155 0 29 (dk_at dksX21_find_0 21 rfl rfl)
theorem dX21_find_24 : decode cX21_find 24 = .ok (.aload_n 0, 1) := dk_42 (dk_at dksX21_find_1 0 rfl rfl)
theorem dX21_find_25 : decode cX21_find 25 = .ok (.getfield 12, 3) := dk_180 0 12 (dk_at dksX21_find_1 1 rfl rfl)
theorem dX21_find_28 : decode cX21_find 28 = .ok (.getfield 61, 3) := dk_180 0 61 (dk_at dksX21_find_1 4 rfl rfl)
theorem dX21_find_31 : decode cX21_find 31 = .ok (.iload_n 2, 1) := dk_28 (dk_at dksX21_find_1 7 rfl rfl)
theorem dX21_find_32 : decode cX21_find 32 = .ok (.iaload, 1) := dk_46 (dk_at dksX21_find_1 8 rfl rfl)
theorem dX21_find_33 : decode cX21_find 33 = .ok (.iload_n 1, 1) := dk_27 (dk_at dksX21_find_1 9 rfl rfl)
theorem dX21_find_34 : decode cX21_find 34 = .ok (.if_icmp .eq 16, 3) := dk_159 0 16 (dk_at dksX21_find_1 10 rfl rfl)
theorem dX21_find_37 : decode cX21_find 37 = .ok (.aload_n 0, 1) := dk_42 (dk_at dksX21_find_1 13 rfl rfl)
theorem dX21_find_38 : decode cX21_find 38 = .ok (.getfield 12, 3) := dk_180 0 12 (dk_at dksX21_find_1 14 rfl rfl)
theorem dX21_find_41 : decode cX21_find 41 = .ok (.getfield 64, 3) := dk_180 0 64 (dk_at dksX21_find_1 17 rfl rfl)
theorem dX21_find_44 : decode cX21_find 44 = .ok (.iload_n 2, 1) := dk_28 (dk_at dksX21_find_1 20 rfl rfl)
theorem dX21_find_45 : decode cX21_find 45 = .ok (.iaload, 1) := dk_46 (dk_at dksX21_find_1 21 rfl rfl)
theorem dX21_find_46 : decode cX21_find 46 = .ok (.istore_n 2, 1) := dk_61 (dk_at dksX21_find_1 22 rfl rfl)
theorem dX21_find_47 : decode cX21_find 47 = .ok (.goto (-27), 3) := dk_167 255 229 (dk_at dksX21_find_2 0 rfl rfl)
theorem dX21_find_50 : decode cX21_find 50 = .ok (.iload_n 2, 1) := dk_28 (dk_at dksX21_find_2 3 rfl rfl)
theorem dX21_find_51 : decode cX21_find 51 = .ok (.ireturn, 1) := dk_172 (dk_at dksX21_find_2 4 rfl rfl)
abbrev cX21_bin : ByteArray := prog_10_method_3_code
def yX21_bin : MethodName := ⟨RX21, "bin", "(I)I"⟩
def dkwX21_bin_2 : List UInt8 := [28, 28, 16, 16, 124, 130, 42, 180, 0, 36, 4, 100, 126, 172]
abbrev dktX21_bin_2 : List UInt8 := dkwX21_bin_2 ++ []
def dkwX21_bin_1 : List UInt8 := [184, 0, 49, 167, 0, 20, 42, 180, 0, 43, 5, 160, 0, 8, 16, 7, 167, 0, 7, 27, 18, 53, 104, 61]
abbrev dktX21_bin_1 : List UInt8 := dkwX21_bin_1 ++ dktX21_bin_2
def dkwX21_bin_0 : List UInt8 := [42, 180, 0, 43, 154, 0, 7, 27, 167, 0, 37, 42, 180, 0, 43, 4, 160, 0, 12, 27, 16, 16]
abbrev dktX21_bin_0 : List UInt8 := dkwX21_bin_0 ++ dktX21_bin_1
theorem dksX21_bin_0 : cX21_bin.data.toList.drop 0 = dktX21_bin_0 := by decide +kernel
theorem dksX21_bin_1 : cX21_bin.data.toList.drop 22 = dktX21_bin_1 := dk_seg dksX21_bin_0 22 rfl rfl
theorem dksX21_bin_2 : cX21_bin.data.toList.drop 46 = dktX21_bin_2 := dk_seg dksX21_bin_1 24 rfl rfl
theorem dX21_bin_0 : decode cX21_bin 0 = .ok (.aload_n 0, 1) := dk_42 (dk_at dksX21_bin_0 0 rfl rfl)
theorem dX21_bin_1 : decode cX21_bin 1 = .ok (.getfield 43, 3) := dk_180 0 43 (dk_at dksX21_bin_0 1 rfl rfl)
theorem dX21_bin_4 : decode cX21_bin 4 = .ok (.ifCond .ne 7, 3) := dk_154 0 7 (dk_at dksX21_bin_0 4 rfl rfl)
theorem dX21_bin_7 : decode cX21_bin 7 = .ok (.iload_n 1, 1) := dk_27 (dk_at dksX21_bin_0 7 rfl rfl)
theorem dX21_bin_8 : decode cX21_bin 8 = .ok (.goto 37, 3) := dk_167 0 37 (dk_at dksX21_bin_0 8 rfl rfl)
theorem dX21_bin_11 : decode cX21_bin 11 = .ok (.aload_n 0, 1) := dk_42 (dk_at dksX21_bin_0 11 rfl rfl)
theorem dX21_bin_12 : decode cX21_bin 12 = .ok (.getfield 43, 3) := dk_180 0 43 (dk_at dksX21_bin_0 12 rfl rfl)
theorem dX21_bin_15 : decode cX21_bin 15 = .ok (.iconst 1, 1) := dk_4 (dk_at dksX21_bin_0 15 rfl rfl)
theorem dX21_bin_16 : decode cX21_bin 16 = .ok (.if_icmp .ne 12, 3) := dk_160 0 12 (dk_at dksX21_bin_0 16 rfl rfl)
theorem dX21_bin_19 : decode cX21_bin 19 = .ok (.iload_n 1, 1) := dk_27 (dk_at dksX21_bin_0 19 rfl rfl)
theorem dX21_bin_20 : decode cX21_bin 20 = .ok (.bipush 16, 2) := dk_16 16 (dk_at dksX21_bin_0 20 rfl rfl)
theorem dX21_bin_22 : decode cX21_bin 22 = .ok (.invokestatic 49, 3) := dk_184 0 49 (dk_at dksX21_bin_1 0 rfl rfl)
theorem dX21_bin_25 : decode cX21_bin 25 = .ok (.goto 20, 3) := dk_167 0 20 (dk_at dksX21_bin_1 3 rfl rfl)
theorem dX21_bin_28 : decode cX21_bin 28 = .ok (.aload_n 0, 1) := dk_42 (dk_at dksX21_bin_1 6 rfl rfl)
theorem dX21_bin_29 : decode cX21_bin 29 = .ok (.getfield 43, 3) := dk_180 0 43 (dk_at dksX21_bin_1 7 rfl rfl)
theorem dX21_bin_32 : decode cX21_bin 32 = .ok (.iconst 2, 1) := dk_5 (dk_at dksX21_bin_1 10 rfl rfl)
theorem dX21_bin_33 : decode cX21_bin 33 = .ok (.if_icmp .ne 8, 3) := dk_160 0 8 (dk_at dksX21_bin_1 11 rfl rfl)
theorem dX21_bin_36 : decode cX21_bin 36 = .ok (.bipush 7, 2) := dk_16 7 (dk_at dksX21_bin_1 14 rfl rfl)
theorem dX21_bin_38 : decode cX21_bin 38 = .ok (.goto 7, 3) := dk_167 0 7 (dk_at dksX21_bin_1 16 rfl rfl)
theorem dX21_bin_41 : decode cX21_bin 41 = .ok (.iload_n 1, 1) := dk_27 (dk_at dksX21_bin_1 19 rfl rfl)
theorem dX21_bin_42 : decode cX21_bin 42 = .ok (.ldc 53, 2) := dk_18 53 (dk_at dksX21_bin_1 20 rfl rfl)
theorem dX21_bin_44 : decode cX21_bin 44 = .ok (.imul, 1) := dk_104 (dk_at dksX21_bin_1 22 rfl rfl)
theorem dX21_bin_45 : decode cX21_bin 45 = .ok (.istore_n 2, 1) := dk_61 (dk_at dksX21_bin_1 23 rfl rfl)
theorem dX21_bin_46 : decode cX21_bin 46 = .ok (.iload_n 2, 1) := dk_28 (dk_at dksX21_bin_2 0 rfl rfl)
theorem dX21_bin_47 : decode cX21_bin 47 = .ok (.iload_n 2, 1) := dk_28 (dk_at dksX21_bin_2 1 rfl rfl)
theorem dX21_bin_48 : decode cX21_bin 48 = .ok (.bipush 16, 2) := dk_16 16 (dk_at dksX21_bin_2 2 rfl rfl)
theorem dX21_bin_50 : decode cX21_bin 50 = .ok (.iushr, 1) := dk_124 (dk_at dksX21_bin_2 4 rfl rfl)
theorem dX21_bin_51 : decode cX21_bin 51 = .ok (.ixor, 1) := dk_130 (dk_at dksX21_bin_2 5 rfl rfl)
theorem dX21_bin_52 : decode cX21_bin 52 = .ok (.aload_n 0, 1) := dk_42 (dk_at dksX21_bin_2 6 rfl rfl)
theorem dX21_bin_53 : decode cX21_bin 53 = .ok (.getfield 36, 3) := dk_180 0 36 (dk_at dksX21_bin_2 7 rfl rfl)
theorem dX21_bin_56 : decode cX21_bin 56 = .ok (.iconst 1, 1) := dk_4 (dk_at dksX21_bin_2 10 rfl rfl)
theorem dX21_bin_57 : decode cX21_bin 57 = .ok (.isub, 1) := dk_100 (dk_at dksX21_bin_2 11 rfl rfl)
theorem dX21_bin_58 : decode cX21_bin 58 = .ok (.iand, 1) := dk_126 (dk_at dksX21_bin_2 12 rfl rfl)
theorem dX21_bin_59 : decode cX21_bin 59 = .ok (.ireturn, 1) := dk_172 (dk_at dksX21_bin_2 13 rfl rfl)
abbrev cX21_value : ByteArray := prog_10_method_13_code
def yX21_value : MethodName := ⟨RX21, "value", "(I)I"⟩
def dkwX21_value_0 : List UInt8 := [42, 180, 0, 12, 180, 0, 74, 27, 46, 172]
abbrev dktX21_value_0 : List UInt8 := dkwX21_value_0 ++ []
theorem dksX21_value_0 : cX21_value.data.toList.drop 0 = dktX21_value_0 := by decide +kernel
theorem dX21_value_0 : decode cX21_value 0 = .ok (.aload_n 0, 1) := dk_42 (dk_at dksX21_value_0 0 rfl rfl)
theorem dX21_value_1 : decode cX21_value 1 = .ok (.getfield 12, 3) := dk_180 0 12 (dk_at dksX21_value_0 1 rfl rfl)
theorem dX21_value_4 : decode cX21_value 4 = .ok (.getfield 74, 3) := dk_180 0 74 (dk_at dksX21_value_0 4 rfl rfl)
theorem dX21_value_7 : decode cX21_value 7 = .ok (.iload_n 1, 1) := dk_27 (dk_at dksX21_value_0 7 rfl rfl)
theorem dX21_value_8 : decode cX21_value 8 = .ok (.iaload, 1) := dk_46 (dk_at dksX21_value_0 8 rfl rfl)
theorem dX21_value_9 : decode cX21_value 9 = .ok (.ireturn, 1) := dk_172 (dk_at dksX21_value_0 9 rfl rfl)
abbrev cX21_setValue : ByteArray := prog_10_method_14_code
def yX21_setValue : MethodName := ⟨RX21, "setValue", "(II)V"⟩
def dkwX21_setValue_0 : List UInt8 := [42, 180, 0, 12, 180, 0, 74, 27, 28, 79, 177]
abbrev dktX21_setValue_0 : List UInt8 := dkwX21_setValue_0 ++ []
theorem dksX21_setValue_0 : cX21_setValue.data.toList.drop 0 = dktX21_setValue_0 := by decide +kernel
theorem dX21_setValue_0 : decode cX21_setValue 0 = .ok (.aload_n 0, 1) := dk_42 (dk_at dksX21_setValue_0 0 rfl rfl)
theorem dX21_setValue_1 : decode cX21_setValue 1 = .ok (.getfield 12, 3) := dk_180 0 12 (dk_at dksX21_setValue_0 1 rfl rfl)
theorem dX21_setValue_4 : decode cX21_setValue 4 = .ok (.getfield 74, 3) := dk_180 0 74 (dk_at dksX21_setValue_0 4 rfl rfl)
theorem dX21_setValue_7 : decode cX21_setValue 7 = .ok (.iload_n 1, 1) := dk_27 (dk_at dksX21_setValue_0 7 rfl rfl)
theorem dX21_setValue_8 : decode cX21_setValue 8 = .ok (.iload_n 2, 1) := dk_28 (dk_at dksX21_setValue_0 8 rfl rfl)
theorem dX21_setValue_9 : decode cX21_setValue 9 = .ok (.iastore, 1) := dk_79 (dk_at dksX21_setValue_0 9 rfl rfl)
theorem dX21_setValue_10 : decode cX21_setValue 10 = .ok (.return_, 1) := dk_177 (dk_at dksX21_setValue_0 10 rfl rfl)
abbrev cX21_checkRoom : ByteArray := prog_10_method_15_code
def yX21_checkRoom : MethodName := ⟨RX21, "checkRoom", "(I)V"⟩
def dkwX21_checkRoom_0 : List UInt8 := [42, 180, 0, 12, 180, 0, 54, 17, 3, 232, 162, 0, 7, 4, 167, 0, 4, 3, 184, 0, 77, 177]
abbrev dktX21_checkRoom_0 : List UInt8 := dkwX21_checkRoom_0 ++ []
theorem dksX21_checkRoom_0 : cX21_checkRoom.data.toList.drop 0 = dktX21_checkRoom_0 := by decide +kernel
theorem dX21_checkRoom_0 : decode cX21_checkRoom 0 = .ok (.aload_n 0, 1) := dk_42 (dk_at dksX21_checkRoom_0 0 rfl rfl)
theorem dX21_checkRoom_1 : decode cX21_checkRoom 1 = .ok (.getfield 12, 3) := dk_180 0 12 (dk_at dksX21_checkRoom_0 1 rfl rfl)
theorem dX21_checkRoom_4 : decode cX21_checkRoom 4 = .ok (.getfield 54, 3) := dk_180 0 54 (dk_at dksX21_checkRoom_0 4 rfl rfl)
theorem dX21_checkRoom_7 : decode cX21_checkRoom 7 = .ok (.sipush 1000, 3) := dk_17 3 232 (dk_at dksX21_checkRoom_0 7 rfl rfl)
theorem dX21_checkRoom_10 : decode cX21_checkRoom 10 = .ok (.if_icmp .ge 7, 3) := dk_162 0 7 (dk_at dksX21_checkRoom_0 10 rfl rfl)
theorem dX21_checkRoom_13 : decode cX21_checkRoom 13 = .ok (.iconst 1, 1) := dk_4 (dk_at dksX21_checkRoom_0 13 rfl rfl)
theorem dX21_checkRoom_14 : decode cX21_checkRoom 14 = .ok (.goto 4, 3) := dk_167 0 4 (dk_at dksX21_checkRoom_0 14 rfl rfl)
theorem dX21_checkRoom_17 : decode cX21_checkRoom 17 = .ok (.iconst 0, 1) := dk_3 (dk_at dksX21_checkRoom_0 17 rfl rfl)
theorem dX21_checkRoom_18 : decode cX21_checkRoom 18 = .ok (.invokestatic 77, 3) := dk_184 0 77 (dk_at dksX21_checkRoom_0 18 rfl rfl)
theorem dX21_checkRoom_21 : decode cX21_checkRoom 21 = .ok (.return_, 1) := dk_177 (dk_at dksX21_checkRoom_0 21 rfl rfl)
abbrev cX21_add : ByteArray := prog_10_method_17_code
def yX21_add : MethodName := ⟨RX21, "add", "(II)V"⟩
def dkwX21_add_6 : List UInt8 := [164, 0, 7, 42, 182, 0, 91, 177]
abbrev dktX21_add_6 : List UInt8 := dkwX21_add_6 ++ []
def dkwX21_add_5 : List UInt8 := [42, 180, 0, 28, 29, 4, 84, 42, 180, 0, 12, 180, 0, 54, 7, 104, 42, 180, 0, 36, 6, 104]
abbrev dktX21_add_5 : List UInt8 := dkwX21_add_5 ++ dktX21_add_6
def dkwX21_add_4 : List UInt8 := [153, 0, 19, 42, 180, 0, 36, 16, 64, 162, 0, 10, 42, 182, 0, 91, 167, 0, 15, 21, 4, 153, 0, 10]
abbrev dktX21_add_4 : List UInt8 := dkwX21_add_4 ++ dktX21_add_5
def dkwX21_add_3 : List UInt8 := [42, 180, 0, 12, 27, 28, 182, 0, 85, 182, 0, 88, 42, 89, 180, 0, 46, 4, 96, 181, 0, 46, 21, 4]
abbrev dktX21_add_3 : List UInt8 := dkwX21_add_3 ++ dktX21_add_4
def dkwX21_add_2 : List UInt8 := [182, 0, 57, 62, 42, 180, 0, 25, 29, 46, 16, 8, 161, 0, 7, 4, 167, 0, 4, 3, 54, 4, 42, 29]
abbrev dktX21_add_2 : List UInt8 := dkwX21_add_2 ++ dktX21_add_3
def dkwX21_add_1 : List UInt8 := [89, 180, 0, 36, 5, 104, 181, 0, 36, 167, 255, 235, 42, 3, 42, 180, 0, 36, 182, 0, 81, 42, 27]
abbrev dktX21_add_1 : List UInt8 := dkwX21_add_1 ++ dktX21_add_2
def dkwX21_add_0 : List UInt8 := [42, 180, 0, 36, 154, 0, 41, 42, 4, 181, 0, 36, 42, 180, 0, 36, 42, 180, 0, 40, 162, 0, 16, 42]
abbrev dktX21_add_0 : List UInt8 := dkwX21_add_0 ++ dktX21_add_1
theorem dksX21_add_0 : cX21_add.data.toList.drop 0 = dktX21_add_0 := by decide +kernel
theorem dksX21_add_1 : cX21_add.data.toList.drop 24 = dktX21_add_1 := dk_seg dksX21_add_0 24 rfl rfl
theorem dksX21_add_2 : cX21_add.data.toList.drop 47 = dktX21_add_2 := dk_seg dksX21_add_1 23 rfl rfl
theorem dksX21_add_3 : cX21_add.data.toList.drop 71 = dktX21_add_3 := dk_seg dksX21_add_2 24 rfl rfl
theorem dksX21_add_4 : cX21_add.data.toList.drop 95 = dktX21_add_4 := dk_seg dksX21_add_3 24 rfl rfl
theorem dksX21_add_5 : cX21_add.data.toList.drop 119 = dktX21_add_5 := dk_seg dksX21_add_4 24 rfl rfl
theorem dksX21_add_6 : cX21_add.data.toList.drop 141 = dktX21_add_6 := dk_seg dksX21_add_5 22 rfl rfl
theorem dX21_add_0 : decode cX21_add 0 = .ok (.aload_n 0, 1) := dk_42 (dk_at dksX21_add_0 0 rfl rfl)
theorem dX21_add_1 : decode cX21_add 1 = .ok (.getfield 36, 3) := dk_180 0 36 (dk_at dksX21_add_0 1 rfl rfl)
theorem dX21_add_4 : decode cX21_add 4 = .ok (.ifCond .ne 41, 3) := dk_154 0 41 (dk_at dksX21_add_0 4 rfl rfl)
theorem dX21_add_7 : decode cX21_add 7 = .ok (.aload_n 0, 1) := dk_42 (dk_at dksX21_add_0 7 rfl rfl)
theorem dX21_add_8 : decode cX21_add 8 = .ok (.iconst 1, 1) := dk_4 (dk_at dksX21_add_0 8 rfl rfl)
theorem dX21_add_9 : decode cX21_add 9 = .ok (.putfield 36, 3) := dk_181 0 36 (dk_at dksX21_add_0 9 rfl rfl)
theorem dX21_add_12 : decode cX21_add 12 = .ok (.aload_n 0, 1) := dk_42 (dk_at dksX21_add_0 12 rfl rfl)
theorem dX21_add_13 : decode cX21_add 13 = .ok (.getfield 36, 3) := dk_180 0 36 (dk_at dksX21_add_0 13 rfl rfl)
theorem dX21_add_16 : decode cX21_add 16 = .ok (.aload_n 0, 1) := dk_42 (dk_at dksX21_add_0 16 rfl rfl)
theorem dX21_add_17 : decode cX21_add 17 = .ok (.getfield 40, 3) := dk_180 0 40 (dk_at dksX21_add_0 17 rfl rfl)
theorem dX21_add_20 : decode cX21_add 20 = .ok (.if_icmp .ge 16, 3) := dk_162 0 16 (dk_at dksX21_add_0 20 rfl rfl)
theorem dX21_add_23 : decode cX21_add 23 = .ok (.aload_n 0, 1) := dk_42 (dk_at dksX21_add_0 23 rfl rfl)
theorem dX21_add_24 : decode cX21_add 24 = .ok (.dup, 1) := dk_89 (dk_at dksX21_add_1 0 rfl rfl)
theorem dX21_add_25 : decode cX21_add 25 = .ok (.getfield 36, 3) := dk_180 0 36 (dk_at dksX21_add_1 1 rfl rfl)
theorem dX21_add_28 : decode cX21_add 28 = .ok (.iconst 2, 1) := dk_5 (dk_at dksX21_add_1 4 rfl rfl)
theorem dX21_add_29 : decode cX21_add 29 = .ok (.imul, 1) := dk_104 (dk_at dksX21_add_1 5 rfl rfl)
theorem dX21_add_30 : decode cX21_add 30 = .ok (.putfield 36, 3) := dk_181 0 36 (dk_at dksX21_add_1 6 rfl rfl)
theorem dX21_add_33 : decode cX21_add 33 = .ok (.goto (-21), 3) := dk_167 255 235 (dk_at dksX21_add_1 9 rfl rfl)
theorem dX21_add_36 : decode cX21_add 36 = .ok (.aload_n 0, 1) := dk_42 (dk_at dksX21_add_1 12 rfl rfl)
theorem dX21_add_37 : decode cX21_add 37 = .ok (.iconst 0, 1) := dk_3 (dk_at dksX21_add_1 13 rfl rfl)
theorem dX21_add_38 : decode cX21_add 38 = .ok (.aload_n 0, 1) := dk_42 (dk_at dksX21_add_1 14 rfl rfl)
theorem dX21_add_39 : decode cX21_add 39 = .ok (.getfield 36, 3) := dk_180 0 36 (dk_at dksX21_add_1 15 rfl rfl)
theorem dX21_add_42 : decode cX21_add 42 = .ok (.invokevirtual 81, 3) := dk_182 0 81 (dk_at dksX21_add_1 18 rfl rfl)
theorem dX21_add_45 : decode cX21_add 45 = .ok (.aload_n 0, 1) := dk_42 (dk_at dksX21_add_1 21 rfl rfl)
theorem dX21_add_46 : decode cX21_add 46 = .ok (.iload_n 1, 1) := dk_27 (dk_at dksX21_add_1 22 rfl rfl)
theorem dX21_add_47 : decode cX21_add 47 = .ok (.invokevirtual 57, 3) := dk_182 0 57 (dk_at dksX21_add_2 0 rfl rfl)
theorem dX21_add_50 : decode cX21_add 50 = .ok (.istore_n 3, 1) := dk_62 (dk_at dksX21_add_2 3 rfl rfl)
theorem dX21_add_51 : decode cX21_add 51 = .ok (.aload_n 0, 1) := dk_42 (dk_at dksX21_add_2 4 rfl rfl)
theorem dX21_add_52 : decode cX21_add 52 = .ok (.getfield 25, 3) := dk_180 0 25 (dk_at dksX21_add_2 5 rfl rfl)
theorem dX21_add_55 : decode cX21_add 55 = .ok (.iload_n 3, 1) := dk_29 (dk_at dksX21_add_2 8 rfl rfl)
theorem dX21_add_56 : decode cX21_add 56 = .ok (.iaload, 1) := dk_46 (dk_at dksX21_add_2 9 rfl rfl)
theorem dX21_add_57 : decode cX21_add 57 = .ok (.bipush 8, 2) := dk_16 8 (dk_at dksX21_add_2 10 rfl rfl)
theorem dX21_add_59 : decode cX21_add 59 = .ok (.if_icmp .lt 7, 3) := dk_161 0 7 (dk_at dksX21_add_2 12 rfl rfl)
theorem dX21_add_62 : decode cX21_add 62 = .ok (.iconst 1, 1) := dk_4 (dk_at dksX21_add_2 15 rfl rfl)
theorem dX21_add_63 : decode cX21_add 63 = .ok (.goto 4, 3) := dk_167 0 4 (dk_at dksX21_add_2 16 rfl rfl)
theorem dX21_add_66 : decode cX21_add 66 = .ok (.iconst 0, 1) := dk_3 (dk_at dksX21_add_2 19 rfl rfl)
theorem dX21_add_67 : decode cX21_add 67 = .ok (.istore 4, 2) := dk_54 4 (dk_at dksX21_add_2 20 rfl rfl)
theorem dX21_add_69 : decode cX21_add 69 = .ok (.aload_n 0, 1) := dk_42 (dk_at dksX21_add_2 22 rfl rfl)
theorem dX21_add_70 : decode cX21_add 70 = .ok (.iload_n 3, 1) := dk_29 (dk_at dksX21_add_2 23 rfl rfl)
theorem dX21_add_71 : decode cX21_add 71 = .ok (.aload_n 0, 1) := dk_42 (dk_at dksX21_add_3 0 rfl rfl)
theorem dX21_add_72 : decode cX21_add 72 = .ok (.getfield 12, 3) := dk_180 0 12 (dk_at dksX21_add_3 1 rfl rfl)
theorem dX21_add_75 : decode cX21_add 75 = .ok (.iload_n 1, 1) := dk_27 (dk_at dksX21_add_3 4 rfl rfl)
theorem dX21_add_76 : decode cX21_add 76 = .ok (.iload_n 2, 1) := dk_28 (dk_at dksX21_add_3 5 rfl rfl)
theorem dX21_add_77 : decode cX21_add 77 = .ok (.invokevirtual 85, 3) := dk_182 0 85 (dk_at dksX21_add_3 6 rfl rfl)
theorem dX21_add_80 : decode cX21_add 80 = .ok (.invokevirtual 88, 3) := dk_182 0 88 (dk_at dksX21_add_3 9 rfl rfl)
theorem dX21_add_83 : decode cX21_add 83 = .ok (.aload_n 0, 1) := dk_42 (dk_at dksX21_add_3 12 rfl rfl)
theorem dX21_add_84 : decode cX21_add 84 = .ok (.dup, 1) := dk_89 (dk_at dksX21_add_3 13 rfl rfl)
theorem dX21_add_85 : decode cX21_add 85 = .ok (.getfield 46, 3) := dk_180 0 46 (dk_at dksX21_add_3 14 rfl rfl)
theorem dX21_add_88 : decode cX21_add 88 = .ok (.iconst 1, 1) := dk_4 (dk_at dksX21_add_3 17 rfl rfl)
theorem dX21_add_89 : decode cX21_add 89 = .ok (.iadd, 1) := dk_96 (dk_at dksX21_add_3 18 rfl rfl)
theorem dX21_add_90 : decode cX21_add 90 = .ok (.putfield 46, 3) := dk_181 0 46 (dk_at dksX21_add_3 19 rfl rfl)
theorem dX21_add_93 : decode cX21_add 93 = .ok (.iload 4, 2) := dk_21 4 (dk_at dksX21_add_3 22 rfl rfl)
theorem dX21_add_95 : decode cX21_add 95 = .ok (.ifCond .eq 19, 3) := dk_153 0 19 (dk_at dksX21_add_4 0 rfl rfl)
theorem dX21_add_98 : decode cX21_add 98 = .ok (.aload_n 0, 1) := dk_42 (dk_at dksX21_add_4 3 rfl rfl)
theorem dX21_add_99 : decode cX21_add 99 = .ok (.getfield 36, 3) := dk_180 0 36 (dk_at dksX21_add_4 4 rfl rfl)
theorem dX21_add_102 : decode cX21_add 102 = .ok (.bipush 64, 2) := dk_16 64 (dk_at dksX21_add_4 7 rfl rfl)
theorem dX21_add_104 : decode cX21_add 104 = .ok (.if_icmp .ge 10, 3) := dk_162 0 10 (dk_at dksX21_add_4 9 rfl rfl)
theorem dX21_add_107 : decode cX21_add 107 = .ok (.aload_n 0, 1) := dk_42 (dk_at dksX21_add_4 12 rfl rfl)
theorem dX21_add_108 : decode cX21_add 108 = .ok (.invokevirtual 91, 3) := dk_182 0 91 (dk_at dksX21_add_4 13 rfl rfl)
theorem dX21_add_111 : decode cX21_add 111 = .ok (.goto 15, 3) := dk_167 0 15 (dk_at dksX21_add_4 16 rfl rfl)
theorem dX21_add_114 : decode cX21_add 114 = .ok (.iload 4, 2) := dk_21 4 (dk_at dksX21_add_4 19 rfl rfl)
theorem dX21_add_116 : decode cX21_add 116 = .ok (.ifCond .eq 10, 3) := dk_153 0 10 (dk_at dksX21_add_4 21 rfl rfl)
theorem dX21_add_119 : decode cX21_add 119 = .ok (.aload_n 0, 1) := dk_42 (dk_at dksX21_add_5 0 rfl rfl)
theorem dX21_add_120 : decode cX21_add 120 = .ok (.getfield 28, 3) := dk_180 0 28 (dk_at dksX21_add_5 1 rfl rfl)
theorem dX21_add_123 : decode cX21_add 123 = .ok (.iload_n 3, 1) := dk_29 (dk_at dksX21_add_5 4 rfl rfl)
theorem dX21_add_124 : decode cX21_add 124 = .ok (.iconst 1, 1) := dk_4 (dk_at dksX21_add_5 5 rfl rfl)
theorem dX21_add_125 : decode cX21_add 125 = .ok (.bastore, 1) := dk_84 (dk_at dksX21_add_5 6 rfl rfl)
theorem dX21_add_126 : decode cX21_add 126 = .ok (.aload_n 0, 1) := dk_42 (dk_at dksX21_add_5 7 rfl rfl)
theorem dX21_add_127 : decode cX21_add 127 = .ok (.getfield 12, 3) := dk_180 0 12 (dk_at dksX21_add_5 8 rfl rfl)
theorem dX21_add_130 : decode cX21_add 130 = .ok (.getfield 54, 3) := dk_180 0 54 (dk_at dksX21_add_5 11 rfl rfl)
theorem dX21_add_133 : decode cX21_add 133 = .ok (.iconst 4, 1) := dk_7 (dk_at dksX21_add_5 14 rfl rfl)
theorem dX21_add_134 : decode cX21_add 134 = .ok (.imul, 1) := dk_104 (dk_at dksX21_add_5 15 rfl rfl)
theorem dX21_add_135 : decode cX21_add 135 = .ok (.aload_n 0, 1) := dk_42 (dk_at dksX21_add_5 16 rfl rfl)
theorem dX21_add_136 : decode cX21_add 136 = .ok (.getfield 36, 3) := dk_180 0 36 (dk_at dksX21_add_5 17 rfl rfl)
theorem dX21_add_139 : decode cX21_add 139 = .ok (.iconst 3, 1) := dk_6 (dk_at dksX21_add_5 20 rfl rfl)
theorem dX21_add_140 : decode cX21_add 140 = .ok (.imul, 1) := dk_104 (dk_at dksX21_add_5 21 rfl rfl)
theorem dX21_add_141 : decode cX21_add 141 = .ok (.if_icmp .le 7, 3) := dk_164 0 7 (dk_at dksX21_add_6 0 rfl rfl)
theorem dX21_add_144 : decode cX21_add 144 = .ok (.aload_n 0, 1) := dk_42 (dk_at dksX21_add_6 3 rfl rfl)
theorem dX21_add_145 : decode cX21_add 145 = .ok (.invokevirtual 91, 3) := dk_182 0 91 (dk_at dksX21_add_6 4 rfl rfl)
theorem dX21_add_148 : decode cX21_add 148 = .ok (.return_, 1) := dk_177 (dk_at dksX21_add_6 7 rfl rfl)
abbrev cX21_empty : ByteArray := prog_10_method_6_code
def yX21_empty : MethodName := ⟨RX21, "empty", "(II)V"⟩
def dkwX21_empty_1 : List UInt8 := [180, 0, 25, 29, 3, 79, 42, 180, 0, 28, 29, 3, 84, 132, 3, 1, 167, 255, 220, 177]
abbrev dktX21_empty_1 : List UInt8 := dkwX21_empty_1 ++ []
def dkwX21_empty_0 : List UInt8 := [27, 62, 29, 28, 162, 0, 37, 42, 180, 0, 18, 29, 2, 79, 42, 180, 0, 22, 29, 2, 79, 42]
abbrev dktX21_empty_0 : List UInt8 := dkwX21_empty_0 ++ dktX21_empty_1
theorem dksX21_empty_0 : cX21_empty.data.toList.drop 0 = dktX21_empty_0 := by decide +kernel
theorem dksX21_empty_1 : cX21_empty.data.toList.drop 22 = dktX21_empty_1 := dk_seg dksX21_empty_0 22 rfl rfl
theorem dX21_empty_0 : decode cX21_empty 0 = .ok (.iload_n 1, 1) := dk_27 (dk_at dksX21_empty_0 0 rfl rfl)
theorem dX21_empty_1 : decode cX21_empty 1 = .ok (.istore_n 3, 1) := dk_62 (dk_at dksX21_empty_0 1 rfl rfl)
theorem dX21_empty_2 : decode cX21_empty 2 = .ok (.iload_n 3, 1) := dk_29 (dk_at dksX21_empty_0 2 rfl rfl)
theorem dX21_empty_3 : decode cX21_empty 3 = .ok (.iload_n 2, 1) := dk_28 (dk_at dksX21_empty_0 3 rfl rfl)
theorem dX21_empty_4 : decode cX21_empty 4 = .ok (.if_icmp .ge 37, 3) := dk_162 0 37 (dk_at dksX21_empty_0 4 rfl rfl)
theorem dX21_empty_7 : decode cX21_empty 7 = .ok (.aload_n 0, 1) := dk_42 (dk_at dksX21_empty_0 7 rfl rfl)
theorem dX21_empty_8 : decode cX21_empty 8 = .ok (.getfield 18, 3) := dk_180 0 18 (dk_at dksX21_empty_0 8 rfl rfl)
theorem dX21_empty_11 : decode cX21_empty 11 = .ok (.iload_n 3, 1) := dk_29 (dk_at dksX21_empty_0 11 rfl rfl)
theorem dX21_empty_12 : decode cX21_empty 12 = .ok (.iconst (-1), 1) := dk_2 (dk_at dksX21_empty_0 12 rfl rfl)
theorem dX21_empty_13 : decode cX21_empty 13 = .ok (.iastore, 1) := dk_79 (dk_at dksX21_empty_0 13 rfl rfl)
theorem dX21_empty_14 : decode cX21_empty 14 = .ok (.aload_n 0, 1) := dk_42 (dk_at dksX21_empty_0 14 rfl rfl)
theorem dX21_empty_15 : decode cX21_empty 15 = .ok (.getfield 22, 3) := dk_180 0 22 (dk_at dksX21_empty_0 15 rfl rfl)
theorem dX21_empty_18 : decode cX21_empty 18 = .ok (.iload_n 3, 1) := dk_29 (dk_at dksX21_empty_0 18 rfl rfl)
theorem dX21_empty_19 : decode cX21_empty 19 = .ok (.iconst (-1), 1) := dk_2 (dk_at dksX21_empty_0 19 rfl rfl)
theorem dX21_empty_20 : decode cX21_empty 20 = .ok (.iastore, 1) := dk_79 (dk_at dksX21_empty_0 20 rfl rfl)
theorem dX21_empty_21 : decode cX21_empty 21 = .ok (.aload_n 0, 1) := dk_42 (dk_at dksX21_empty_0 21 rfl rfl)
theorem dX21_empty_22 : decode cX21_empty 22 = .ok (.getfield 25, 3) := dk_180 0 25 (dk_at dksX21_empty_1 0 rfl rfl)
theorem dX21_empty_25 : decode cX21_empty 25 = .ok (.iload_n 3, 1) := dk_29 (dk_at dksX21_empty_1 3 rfl rfl)
theorem dX21_empty_26 : decode cX21_empty 26 = .ok (.iconst 0, 1) := dk_3 (dk_at dksX21_empty_1 4 rfl rfl)
theorem dX21_empty_27 : decode cX21_empty 27 = .ok (.iastore, 1) := dk_79 (dk_at dksX21_empty_1 5 rfl rfl)
theorem dX21_empty_28 : decode cX21_empty 28 = .ok (.aload_n 0, 1) := dk_42 (dk_at dksX21_empty_1 6 rfl rfl)
theorem dX21_empty_29 : decode cX21_empty 29 = .ok (.getfield 28, 3) := dk_180 0 28 (dk_at dksX21_empty_1 7 rfl rfl)
theorem dX21_empty_32 : decode cX21_empty 32 = .ok (.iload_n 3, 1) := dk_29 (dk_at dksX21_empty_1 10 rfl rfl)
theorem dX21_empty_33 : decode cX21_empty 33 = .ok (.iconst 0, 1) := dk_3 (dk_at dksX21_empty_1 11 rfl rfl)
theorem dX21_empty_34 : decode cX21_empty 34 = .ok (.bastore, 1) := dk_84 (dk_at dksX21_empty_1 12 rfl rfl)
theorem dX21_empty_35 : decode cX21_empty 35 = .ok (.iinc 3 1, 3) := dk_132 3 1 (dk_at dksX21_empty_1 13 rfl rfl)
theorem dX21_empty_38 : decode cX21_empty 38 = .ok (.goto (-36), 3) := dk_167 255 220 (dk_at dksX21_empty_1 16 rfl rfl)
theorem dX21_empty_41 : decode cX21_empty 41 = .ok (.return_, 1) := dk_177 (dk_at dksX21_empty_1 19 rfl rfl)
abbrev cX21_append : ByteArray := prog_10_method_16_code
def yX21_append : MethodName := ⟨RX21, "append", "(II)V"⟩
def dkwX21_append_2 : List UInt8 := [27, 28, 79, 42, 180, 0, 25, 27, 92, 46, 4, 96, 79, 177]
abbrev dktX21_append_2 : List UInt8 := dkwX21_append_2 ++ []
def dkwX21_append_1 : List UInt8 := [28, 79, 167, 0, 18, 42, 180, 0, 12, 180, 0, 64, 42, 180, 0, 22, 27, 46, 28, 79, 42, 180, 0, 22]
abbrev dktX21_append_1 : List UInt8 := dkwX21_append_1 ++ dktX21_append_2
def dkwX21_append_0 : List UInt8 := [42, 180, 0, 12, 180, 0, 64, 28, 2, 79, 42, 180, 0, 22, 27, 46, 156, 0, 13, 42, 180, 0, 18, 27]
abbrev dktX21_append_0 : List UInt8 := dkwX21_append_0 ++ dktX21_append_1
theorem dksX21_append_0 : cX21_append.data.toList.drop 0 = dktX21_append_0 := by decide +kernel
theorem dksX21_append_1 : cX21_append.data.toList.drop 24 = dktX21_append_1 := dk_seg dksX21_append_0 24 rfl rfl
theorem dksX21_append_2 : cX21_append.data.toList.drop 48 = dktX21_append_2 := dk_seg dksX21_append_1 24 rfl rfl
theorem dX21_append_0 : decode cX21_append 0 = .ok (.aload_n 0, 1) := dk_42 (dk_at dksX21_append_0 0 rfl rfl)
theorem dX21_append_1 : decode cX21_append 1 = .ok (.getfield 12, 3) := dk_180 0 12 (dk_at dksX21_append_0 1 rfl rfl)
theorem dX21_append_4 : decode cX21_append 4 = .ok (.getfield 64, 3) := dk_180 0 64 (dk_at dksX21_append_0 4 rfl rfl)
theorem dX21_append_7 : decode cX21_append 7 = .ok (.iload_n 2, 1) := dk_28 (dk_at dksX21_append_0 7 rfl rfl)
theorem dX21_append_8 : decode cX21_append 8 = .ok (.iconst (-1), 1) := dk_2 (dk_at dksX21_append_0 8 rfl rfl)
theorem dX21_append_9 : decode cX21_append 9 = .ok (.iastore, 1) := dk_79 (dk_at dksX21_append_0 9 rfl rfl)
theorem dX21_append_10 : decode cX21_append 10 = .ok (.aload_n 0, 1) := dk_42 (dk_at dksX21_append_0 10 rfl rfl)
theorem dX21_append_11 : decode cX21_append 11 = .ok (.getfield 22, 3) := dk_180 0 22 (dk_at dksX21_append_0 11 rfl rfl)
theorem dX21_append_14 : decode cX21_append 14 = .ok (.iload_n 1, 1) := dk_27 (dk_at dksX21_append_0 14 rfl rfl)
theorem dX21_append_15 : decode cX21_append 15 = .ok (.iaload, 1) := dk_46 (dk_at dksX21_append_0 15 rfl rfl)
theorem dX21_append_16 : decode cX21_append 16 = .ok (.ifCond .ge 13, 3) := dk_156 0 13 (dk_at dksX21_append_0 16 rfl rfl)
theorem dX21_append_19 : decode cX21_append 19 = .ok (.aload_n 0, 1) := dk_42 (dk_at dksX21_append_0 19 rfl rfl)
theorem dX21_append_20 : decode cX21_append 20 = .ok (.getfield 18, 3) := dk_180 0 18 (dk_at dksX21_append_0 20 rfl rfl)
theorem dX21_append_23 : decode cX21_append 23 = .ok (.iload_n 1, 1) := dk_27 (dk_at dksX21_append_0 23 rfl rfl)
theorem dX21_append_24 : decode cX21_append 24 = .ok (.iload_n 2, 1) := dk_28 (dk_at dksX21_append_1 0 rfl rfl)
theorem dX21_append_25 : decode cX21_append 25 = .ok (.iastore, 1) := dk_79 (dk_at dksX21_append_1 1 rfl rfl)
theorem dX21_append_26 : decode cX21_append 26 = .ok (.goto 18, 3) := dk_167 0 18 (dk_at dksX21_append_1 2 rfl rfl)
theorem dX21_append_29 : decode cX21_append 29 = .ok (.aload_n 0, 1) := dk_42 (dk_at dksX21_append_1 5 rfl rfl)
theorem dX21_append_30 : decode cX21_append 30 = .ok (.getfield 12, 3) := dk_180 0 12 (dk_at dksX21_append_1 6 rfl rfl)
theorem dX21_append_33 : decode cX21_append 33 = .ok (.getfield 64, 3) := dk_180 0 64 (dk_at dksX21_append_1 9 rfl rfl)
theorem dX21_append_36 : decode cX21_append 36 = .ok (.aload_n 0, 1) := dk_42 (dk_at dksX21_append_1 12 rfl rfl)
theorem dX21_append_37 : decode cX21_append 37 = .ok (.getfield 22, 3) := dk_180 0 22 (dk_at dksX21_append_1 13 rfl rfl)
theorem dX21_append_40 : decode cX21_append 40 = .ok (.iload_n 1, 1) := dk_27 (dk_at dksX21_append_1 16 rfl rfl)
theorem dX21_append_41 : decode cX21_append 41 = .ok (.iaload, 1) := dk_46 (dk_at dksX21_append_1 17 rfl rfl)
theorem dX21_append_42 : decode cX21_append 42 = .ok (.iload_n 2, 1) := dk_28 (dk_at dksX21_append_1 18 rfl rfl)
theorem dX21_append_43 : decode cX21_append 43 = .ok (.iastore, 1) := dk_79 (dk_at dksX21_append_1 19 rfl rfl)
theorem dX21_append_44 : decode cX21_append 44 = .ok (.aload_n 0, 1) := dk_42 (dk_at dksX21_append_1 20 rfl rfl)
theorem dX21_append_45 : decode cX21_append 45 = .ok (.getfield 22, 3) := dk_180 0 22 (dk_at dksX21_append_1 21 rfl rfl)
theorem dX21_append_48 : decode cX21_append 48 = .ok (.iload_n 1, 1) := dk_27 (dk_at dksX21_append_2 0 rfl rfl)
theorem dX21_append_49 : decode cX21_append 49 = .ok (.iload_n 2, 1) := dk_28 (dk_at dksX21_append_2 1 rfl rfl)
theorem dX21_append_50 : decode cX21_append 50 = .ok (.iastore, 1) := dk_79 (dk_at dksX21_append_2 2 rfl rfl)
theorem dX21_append_51 : decode cX21_append 51 = .ok (.aload_n 0, 1) := dk_42 (dk_at dksX21_append_2 3 rfl rfl)
theorem dX21_append_52 : decode cX21_append 52 = .ok (.getfield 25, 3) := dk_180 0 25 (dk_at dksX21_append_2 4 rfl rfl)
theorem dX21_append_55 : decode cX21_append 55 = .ok (.iload_n 1, 1) := dk_27 (dk_at dksX21_append_2 7 rfl rfl)
theorem dX21_append_56 : decode cX21_append 56 = .ok (.dup2, 1) := dk_92 (dk_at dksX21_append_2 8 rfl rfl)
theorem dX21_append_57 : decode cX21_append 57 = .ok (.iaload, 1) := dk_46 (dk_at dksX21_append_2 9 rfl rfl)
theorem dX21_append_58 : decode cX21_append 58 = .ok (.iconst 1, 1) := dk_4 (dk_at dksX21_append_2 10 rfl rfl)
theorem dX21_append_59 : decode cX21_append 59 = .ok (.iadd, 1) := dk_96 (dk_at dksX21_append_2 11 rfl rfl)
theorem dX21_append_60 : decode cX21_append 60 = .ok (.iastore, 1) := dk_79 (dk_at dksX21_append_2 12 rfl rfl)
theorem dX21_append_61 : decode cX21_append 61 = .ok (.return_, 1) := dk_177 (dk_at dksX21_append_2 13 rfl rfl)
abbrev cX21_twice : ByteArray := prog_10_method_18_code
def yX21_twice : MethodName := ⟨RX21, "twice", "()V"⟩
def dkwX21_twice_6 : List UInt8 := [164, 0, 7, 4, 167, 0, 4, 3, 84, 132, 2, 1, 167, 255, 128, 177]
abbrev dktX21_twice_6 : List UInt8 := dkwX21_twice_6 ++ []
def dkwX21_twice_5 : List UInt8 := [3, 84, 42, 180, 0, 28, 28, 27, 96, 21, 4, 153, 0, 20, 42, 180, 0, 25, 28, 27, 96, 46, 16, 6]
abbrev dktX21_twice_5 : List UInt8 := dkwX21_twice_5 ++ dktX21_twice_6
def dkwX21_twice_4 : List UInt8 := [180, 0, 28, 28, 21, 4, 153, 0, 18, 42, 180, 0, 25, 28, 46, 16, 6, 164, 0, 7, 4, 167, 0, 4]
abbrev dktX21_twice_4 : List UInt8 := dkwX21_twice_4 ++ dktX21_twice_5
def dkwX21_twice_3 : List UInt8 := [180, 0, 12, 180, 0, 61, 29, 46, 182, 0, 57, 29, 182, 0, 88, 21, 5, 62, 167, 255, 220, 42]
abbrev dktX21_twice_3 : List UInt8 := dkwX21_twice_3 ++ dktX21_twice_4
def dkwX21_twice_2 : List UInt8 := [28, 4, 96, 182, 0, 81, 29, 155, 0, 38, 42, 180, 0, 12, 180, 0, 64, 29, 46, 54, 5, 42, 42, 42]
abbrev dktX21_twice_2 : List UInt8 := dkwX21_twice_2 ++ dktX21_twice_3
def dkwX21_twice_1 : List UInt8 := [3, 61, 28, 27, 162, 0, 129, 42, 180, 0, 18, 28, 46, 62, 42, 180, 0, 28, 28, 51, 54, 4, 42, 28]
abbrev dktX21_twice_1 : List UInt8 := dkwX21_twice_1 ++ dktX21_twice_2
def dkwX21_twice_0 : List UInt8 := [42, 180, 0, 36, 60, 42, 89, 180, 0, 36, 5, 104, 181, 0, 36, 42, 27, 42, 180, 0, 36, 182, 0, 81]
abbrev dktX21_twice_0 : List UInt8 := dkwX21_twice_0 ++ dktX21_twice_1
theorem dksX21_twice_0 : cX21_twice.data.toList.drop 0 = dktX21_twice_0 := by decide +kernel
theorem dksX21_twice_1 : cX21_twice.data.toList.drop 24 = dktX21_twice_1 := dk_seg dksX21_twice_0 24 rfl rfl
theorem dksX21_twice_2 : cX21_twice.data.toList.drop 48 = dktX21_twice_2 := dk_seg dksX21_twice_1 24 rfl rfl
theorem dksX21_twice_3 : cX21_twice.data.toList.drop 72 = dktX21_twice_3 := dk_seg dksX21_twice_2 24 rfl rfl
theorem dksX21_twice_4 : cX21_twice.data.toList.drop 94 = dktX21_twice_4 := dk_seg dksX21_twice_3 22 rfl rfl
theorem dksX21_twice_5 : cX21_twice.data.toList.drop 118 = dktX21_twice_5 := dk_seg dksX21_twice_4 24 rfl rfl
theorem dksX21_twice_6 : cX21_twice.data.toList.drop 142 = dktX21_twice_6 := dk_seg dksX21_twice_5 24 rfl rfl
theorem dX21_twice_0 : decode cX21_twice 0 = .ok (.aload_n 0, 1) := dk_42 (dk_at dksX21_twice_0 0 rfl rfl)
theorem dX21_twice_1 : decode cX21_twice 1 = .ok (.getfield 36, 3) := dk_180 0 36 (dk_at dksX21_twice_0 1 rfl rfl)
theorem dX21_twice_4 : decode cX21_twice 4 = .ok (.istore_n 1, 1) := dk_60 (dk_at dksX21_twice_0 4 rfl rfl)
theorem dX21_twice_5 : decode cX21_twice 5 = .ok (.aload_n 0, 1) := dk_42 (dk_at dksX21_twice_0 5 rfl rfl)
theorem dX21_twice_6 : decode cX21_twice 6 = .ok (.dup, 1) := dk_89 (dk_at dksX21_twice_0 6 rfl rfl)
theorem dX21_twice_7 : decode cX21_twice 7 = .ok (.getfield 36, 3) := dk_180 0 36 (dk_at dksX21_twice_0 7 rfl rfl)
theorem dX21_twice_10 : decode cX21_twice 10 = .ok (.iconst 2, 1) := dk_5 (dk_at dksX21_twice_0 10 rfl rfl)
theorem dX21_twice_11 : decode cX21_twice 11 = .ok (.imul, 1) := dk_104 (dk_at dksX21_twice_0 11 rfl rfl)
theorem dX21_twice_12 : decode cX21_twice 12 = .ok (.putfield 36, 3) := dk_181 0 36 (dk_at dksX21_twice_0 12 rfl rfl)
theorem dX21_twice_15 : decode cX21_twice 15 = .ok (.aload_n 0, 1) := dk_42 (dk_at dksX21_twice_0 15 rfl rfl)
theorem dX21_twice_16 : decode cX21_twice 16 = .ok (.iload_n 1, 1) := dk_27 (dk_at dksX21_twice_0 16 rfl rfl)
theorem dX21_twice_17 : decode cX21_twice 17 = .ok (.aload_n 0, 1) := dk_42 (dk_at dksX21_twice_0 17 rfl rfl)
theorem dX21_twice_18 : decode cX21_twice 18 = .ok (.getfield 36, 3) := dk_180 0 36 (dk_at dksX21_twice_0 18 rfl rfl)
theorem dX21_twice_21 : decode cX21_twice 21 = .ok (.invokevirtual 81, 3) := dk_182 0 81 (dk_at dksX21_twice_0 21 rfl rfl)
theorem dX21_twice_24 : decode cX21_twice 24 = .ok (.iconst 0, 1) := dk_3 (dk_at dksX21_twice_1 0 rfl rfl)
theorem dX21_twice_25 : decode cX21_twice 25 = .ok (.istore_n 2, 1) := dk_61 (dk_at dksX21_twice_1 1 rfl rfl)
theorem dX21_twice_26 : decode cX21_twice 26 = .ok (.iload_n 2, 1) := dk_28 (dk_at dksX21_twice_1 2 rfl rfl)
theorem dX21_twice_27 : decode cX21_twice 27 = .ok (.iload_n 1, 1) := dk_27 (dk_at dksX21_twice_1 3 rfl rfl)
theorem dX21_twice_28 : decode cX21_twice 28 = .ok (.if_icmp .ge 129, 3) := dk_162 0 129 (dk_at dksX21_twice_1 4 rfl rfl)
theorem dX21_twice_31 : decode cX21_twice 31 = .ok (.aload_n 0, 1) := dk_42 (dk_at dksX21_twice_1 7 rfl rfl)
theorem dX21_twice_32 : decode cX21_twice 32 = .ok (.getfield 18, 3) := dk_180 0 18 (dk_at dksX21_twice_1 8 rfl rfl)
theorem dX21_twice_35 : decode cX21_twice 35 = .ok (.iload_n 2, 1) := dk_28 (dk_at dksX21_twice_1 11 rfl rfl)
theorem dX21_twice_36 : decode cX21_twice 36 = .ok (.iaload, 1) := dk_46 (dk_at dksX21_twice_1 12 rfl rfl)
theorem dX21_twice_37 : decode cX21_twice 37 = .ok (.istore_n 3, 1) := dk_62 (dk_at dksX21_twice_1 13 rfl rfl)
theorem dX21_twice_38 : decode cX21_twice 38 = .ok (.aload_n 0, 1) := dk_42 (dk_at dksX21_twice_1 14 rfl rfl)
theorem dX21_twice_39 : decode cX21_twice 39 = .ok (.getfield 28, 3) := dk_180 0 28 (dk_at dksX21_twice_1 15 rfl rfl)
theorem dX21_twice_42 : decode cX21_twice 42 = .ok (.iload_n 2, 1) := dk_28 (dk_at dksX21_twice_1 18 rfl rfl)
theorem dX21_twice_43 : decode cX21_twice 43 = .ok (.baload, 1) := dk_51 (dk_at dksX21_twice_1 19 rfl rfl)
theorem dX21_twice_44 : decode cX21_twice 44 = .ok (.istore 4, 2) := dk_54 4 (dk_at dksX21_twice_1 20 rfl rfl)
theorem dX21_twice_46 : decode cX21_twice 46 = .ok (.aload_n 0, 1) := dk_42 (dk_at dksX21_twice_1 22 rfl rfl)
theorem dX21_twice_47 : decode cX21_twice 47 = .ok (.iload_n 2, 1) := dk_28 (dk_at dksX21_twice_1 23 rfl rfl)
theorem dX21_twice_48 : decode cX21_twice 48 = .ok (.iload_n 2, 1) := dk_28 (dk_at dksX21_twice_2 0 rfl rfl)
theorem dX21_twice_49 : decode cX21_twice 49 = .ok (.iconst 1, 1) := dk_4 (dk_at dksX21_twice_2 1 rfl rfl)
theorem dX21_twice_50 : decode cX21_twice 50 = .ok (.iadd, 1) := dk_96 (dk_at dksX21_twice_2 2 rfl rfl)
theorem dX21_twice_51 : decode cX21_twice 51 = .ok (.invokevirtual 81, 3) := dk_182 0 81 (dk_at dksX21_twice_2 3 rfl rfl)
theorem dX21_twice_54 : decode cX21_twice 54 = .ok (.iload_n 3, 1) := dk_29 (dk_at dksX21_twice_2 6 rfl rfl)
theorem dX21_twice_55 : decode cX21_twice 55 = .ok (.ifCond .lt 38, 3) := dk_155 0 38 (dk_at dksX21_twice_2 7 rfl rfl)
theorem dX21_twice_58 : decode cX21_twice 58 = .ok (.aload_n 0, 1) := dk_42 (dk_at dksX21_twice_2 10 rfl rfl)
theorem dX21_twice_59 : decode cX21_twice 59 = .ok (.getfield 12, 3) := dk_180 0 12 (dk_at dksX21_twice_2 11 rfl rfl)
theorem dX21_twice_62 : decode cX21_twice 62 = .ok (.getfield 64, 3) := dk_180 0 64 (dk_at dksX21_twice_2 14 rfl rfl)
theorem dX21_twice_65 : decode cX21_twice 65 = .ok (.iload_n 3, 1) := dk_29 (dk_at dksX21_twice_2 17 rfl rfl)
theorem dX21_twice_66 : decode cX21_twice 66 = .ok (.iaload, 1) := dk_46 (dk_at dksX21_twice_2 18 rfl rfl)
theorem dX21_twice_67 : decode cX21_twice 67 = .ok (.istore 5, 2) := dk_54 5 (dk_at dksX21_twice_2 19 rfl rfl)
theorem dX21_twice_69 : decode cX21_twice 69 = .ok (.aload_n 0, 1) := dk_42 (dk_at dksX21_twice_2 21 rfl rfl)
theorem dX21_twice_70 : decode cX21_twice 70 = .ok (.aload_n 0, 1) := dk_42 (dk_at dksX21_twice_2 22 rfl rfl)
theorem dX21_twice_71 : decode cX21_twice 71 = .ok (.aload_n 0, 1) := dk_42 (dk_at dksX21_twice_2 23 rfl rfl)
theorem dX21_twice_72 : decode cX21_twice 72 = .ok (.getfield 12, 3) := dk_180 0 12 (dk_at dksX21_twice_3 0 rfl rfl)
theorem dX21_twice_75 : decode cX21_twice 75 = .ok (.getfield 61, 3) := dk_180 0 61 (dk_at dksX21_twice_3 3 rfl rfl)
theorem dX21_twice_78 : decode cX21_twice 78 = .ok (.iload_n 3, 1) := dk_29 (dk_at dksX21_twice_3 6 rfl rfl)
theorem dX21_twice_79 : decode cX21_twice 79 = .ok (.iaload, 1) := dk_46 (dk_at dksX21_twice_3 7 rfl rfl)
theorem dX21_twice_80 : decode cX21_twice 80 = .ok (.invokevirtual 57, 3) := dk_182 0 57 (dk_at dksX21_twice_3 8 rfl rfl)
theorem dX21_twice_83 : decode cX21_twice 83 = .ok (.iload_n 3, 1) := dk_29 (dk_at dksX21_twice_3 11 rfl rfl)
theorem dX21_twice_84 : decode cX21_twice 84 = .ok (.invokevirtual 88, 3) := dk_182 0 88 (dk_at dksX21_twice_3 12 rfl rfl)
theorem dX21_twice_87 : decode cX21_twice 87 = .ok (.iload 5, 2) := dk_21 5 (dk_at dksX21_twice_3 15 rfl rfl)
theorem dX21_twice_89 : decode cX21_twice 89 = .ok (.istore_n 3, 1) := dk_62 (dk_at dksX21_twice_3 17 rfl rfl)
theorem dX21_twice_90 : decode cX21_twice 90 = .ok (.goto (-36), 3) := dk_167 255 220 (dk_at dksX21_twice_3 18 rfl rfl)
theorem dX21_twice_93 : decode cX21_twice 93 = .ok (.aload_n 0, 1) := dk_42 (dk_at dksX21_twice_3 21 rfl rfl)
theorem dX21_twice_94 : decode cX21_twice 94 = .ok (.getfield 28, 3) := dk_180 0 28 (dk_at dksX21_twice_4 0 rfl rfl)
theorem dX21_twice_97 : decode cX21_twice 97 = .ok (.iload_n 2, 1) := dk_28 (dk_at dksX21_twice_4 3 rfl rfl)
theorem dX21_twice_98 : decode cX21_twice 98 = .ok (.iload 4, 2) := dk_21 4 (dk_at dksX21_twice_4 4 rfl rfl)
theorem dX21_twice_100 : decode cX21_twice 100 = .ok (.ifCond .eq 18, 3) := dk_153 0 18 (dk_at dksX21_twice_4 6 rfl rfl)
theorem dX21_twice_103 : decode cX21_twice 103 = .ok (.aload_n 0, 1) := dk_42 (dk_at dksX21_twice_4 9 rfl rfl)
theorem dX21_twice_104 : decode cX21_twice 104 = .ok (.getfield 25, 3) := dk_180 0 25 (dk_at dksX21_twice_4 10 rfl rfl)
theorem dX21_twice_107 : decode cX21_twice 107 = .ok (.iload_n 2, 1) := dk_28 (dk_at dksX21_twice_4 13 rfl rfl)
theorem dX21_twice_108 : decode cX21_twice 108 = .ok (.iaload, 1) := dk_46 (dk_at dksX21_twice_4 14 rfl rfl)
theorem dX21_twice_109 : decode cX21_twice 109 = .ok (.bipush 6, 2) := dk_16 6 (dk_at dksX21_twice_4 15 rfl rfl)
theorem dX21_twice_111 : decode cX21_twice 111 = .ok (.if_icmp .le 7, 3) := dk_164 0 7 (dk_at dksX21_twice_4 17 rfl rfl)
theorem dX21_twice_114 : decode cX21_twice 114 = .ok (.iconst 1, 1) := dk_4 (dk_at dksX21_twice_4 20 rfl rfl)
theorem dX21_twice_115 : decode cX21_twice 115 = .ok (.goto 4, 3) := dk_167 0 4 (dk_at dksX21_twice_4 21 rfl rfl)
theorem dX21_twice_118 : decode cX21_twice 118 = .ok (.iconst 0, 1) := dk_3 (dk_at dksX21_twice_5 0 rfl rfl)
theorem dX21_twice_119 : decode cX21_twice 119 = .ok (.bastore, 1) := dk_84 (dk_at dksX21_twice_5 1 rfl rfl)
theorem dX21_twice_120 : decode cX21_twice 120 = .ok (.aload_n 0, 1) := dk_42 (dk_at dksX21_twice_5 2 rfl rfl)
theorem dX21_twice_121 : decode cX21_twice 121 = .ok (.getfield 28, 3) := dk_180 0 28 (dk_at dksX21_twice_5 3 rfl rfl)
theorem dX21_twice_124 : decode cX21_twice 124 = .ok (.iload_n 2, 1) := dk_28 (dk_at dksX21_twice_5 6 rfl rfl)
theorem dX21_twice_125 : decode cX21_twice 125 = .ok (.iload_n 1, 1) := dk_27 (dk_at dksX21_twice_5 7 rfl rfl)
theorem dX21_twice_126 : decode cX21_twice 126 = .ok (.iadd, 1) := dk_96 (dk_at dksX21_twice_5 8 rfl rfl)
theorem dX21_twice_127 : decode cX21_twice 127 = .ok (.iload 4, 2) := dk_21 4 (dk_at dksX21_twice_5 9 rfl rfl)
theorem dX21_twice_129 : decode cX21_twice 129 = .ok (.ifCond .eq 20, 3) := dk_153 0 20 (dk_at dksX21_twice_5 11 rfl rfl)
theorem dX21_twice_132 : decode cX21_twice 132 = .ok (.aload_n 0, 1) := dk_42 (dk_at dksX21_twice_5 14 rfl rfl)
theorem dX21_twice_133 : decode cX21_twice 133 = .ok (.getfield 25, 3) := dk_180 0 25 (dk_at dksX21_twice_5 15 rfl rfl)
theorem dX21_twice_136 : decode cX21_twice 136 = .ok (.iload_n 2, 1) := dk_28 (dk_at dksX21_twice_5 18 rfl rfl)
theorem dX21_twice_137 : decode cX21_twice 137 = .ok (.iload_n 1, 1) := dk_27 (dk_at dksX21_twice_5 19 rfl rfl)
theorem dX21_twice_138 : decode cX21_twice 138 = .ok (.iadd, 1) := dk_96 (dk_at dksX21_twice_5 20 rfl rfl)
theorem dX21_twice_139 : decode cX21_twice 139 = .ok (.iaload, 1) := dk_46 (dk_at dksX21_twice_5 21 rfl rfl)
theorem dX21_twice_140 : decode cX21_twice 140 = .ok (.bipush 6, 2) := dk_16 6 (dk_at dksX21_twice_5 22 rfl rfl)
theorem dX21_twice_142 : decode cX21_twice 142 = .ok (.if_icmp .le 7, 3) := dk_164 0 7 (dk_at dksX21_twice_6 0 rfl rfl)
theorem dX21_twice_145 : decode cX21_twice 145 = .ok (.iconst 1, 1) := dk_4 (dk_at dksX21_twice_6 3 rfl rfl)
theorem dX21_twice_146 : decode cX21_twice 146 = .ok (.goto 4, 3) := dk_167 0 4 (dk_at dksX21_twice_6 4 rfl rfl)
theorem dX21_twice_149 : decode cX21_twice 149 = .ok (.iconst 0, 1) := dk_3 (dk_at dksX21_twice_6 7 rfl rfl)
theorem dX21_twice_150 : decode cX21_twice 150 = .ok (.bastore, 1) := dk_84 (dk_at dksX21_twice_6 8 rfl rfl)
theorem dX21_twice_151 : decode cX21_twice 151 = .ok (.iinc 2 1, 3) := dk_132 2 1 (dk_at dksX21_twice_6 9 rfl rfl)
theorem dX21_twice_154 : decode cX21_twice 154 = .ok (.goto (-128), 3) := dk_167 255 128 (dk_at dksX21_twice_6 12 rfl rfl)
theorem dX21_twice_157 : decode cX21_twice 157 = .ok (.return_, 1) := dk_177 (dk_at dksX21_twice_6 15 rfl rfl)
abbrev cX21_remove : ByteArray := prog_10_method_19_code
def yX21_remove : MethodName := ⟨RX21, "remove", "(I)V"⟩
def dkwX21_remove_6 : List UInt8 := [180, 0, 46, 4, 96, 181, 0, 46, 177]
abbrev dktX21_remove_6 : List UInt8 := dkwX21_remove_6 ++ []
def dkwX21_remove_5 : List UInt8 := [28, 46, 16, 6, 163, 0, 10, 42, 180, 0, 28, 28, 3, 84, 42, 180, 0, 12, 27, 182, 0, 94, 42, 89]
abbrev dktX21_remove_5 : List UInt8 := dkwX21_remove_5 ++ dktX21_remove_6
def dkwX21_remove_4 : List UInt8 := [160, 0, 10, 42, 180, 0, 22, 28, 29, 79, 42, 180, 0, 25, 28, 92, 46, 4, 100, 79, 42, 180, 0, 25]
abbrev dktX21_remove_4 : List UInt8 := dkwX21_remove_4 ++ dktX21_remove_5
def dkwX21_remove_3 : List UInt8 := [180, 0, 12, 180, 0, 64, 29, 42, 180, 0, 12, 180, 0, 64, 27, 46, 79, 42, 180, 0, 22, 28, 46, 27]
abbrev dktX21_remove_3 : List UInt8 := dkwX21_remove_3 ++ dktX21_remove_4
def dkwX21_remove_2 : List UInt8 := [29, 156, 0, 21, 42, 180, 0, 18, 28, 42, 180, 0, 12, 180, 0, 64, 27, 46, 79, 167, 0, 21, 42]
abbrev dktX21_remove_2 : List UInt8 := dkwX21_remove_2 ++ dktX21_remove_3
def dkwX21_remove_1 : List UInt8 := [21, 4, 27, 159, 0, 21, 21, 4, 62, 42, 180, 0, 12, 180, 0, 64, 21, 4, 46, 54, 4, 167, 255, 235]
abbrev dktX21_remove_1 : List UInt8 := dkwX21_remove_1 ++ dktX21_remove_2
def dkwX21_remove_0 : List UInt8 := [42, 42, 180, 0, 12, 180, 0, 61, 27, 46, 182, 0, 57, 61, 2, 62, 42, 180, 0, 18, 28, 46, 54, 4]
abbrev dktX21_remove_0 : List UInt8 := dkwX21_remove_0 ++ dktX21_remove_1
theorem dksX21_remove_0 : cX21_remove.data.toList.drop 0 = dktX21_remove_0 := by decide +kernel
theorem dksX21_remove_1 : cX21_remove.data.toList.drop 24 = dktX21_remove_1 := dk_seg dksX21_remove_0 24 rfl rfl
theorem dksX21_remove_2 : cX21_remove.data.toList.drop 48 = dktX21_remove_2 := dk_seg dksX21_remove_1 24 rfl rfl
theorem dksX21_remove_3 : cX21_remove.data.toList.drop 71 = dktX21_remove_3 := dk_seg dksX21_remove_2 23 rfl rfl
theorem dksX21_remove_4 : cX21_remove.data.toList.drop 95 = dktX21_remove_4 := dk_seg dksX21_remove_3 24 rfl rfl
theorem dksX21_remove_5 : cX21_remove.data.toList.drop 119 = dktX21_remove_5 := dk_seg dksX21_remove_4 24 rfl rfl
theorem dksX21_remove_6 : cX21_remove.data.toList.drop 143 = dktX21_remove_6 := dk_seg dksX21_remove_5 24 rfl rfl
theorem dX21_remove_0 : decode cX21_remove 0 = .ok (.aload_n 0, 1) := dk_42 (dk_at dksX21_remove_0 0 rfl rfl)
theorem dX21_remove_1 : decode cX21_remove 1 = .ok (.aload_n 0, 1) := dk_42 (dk_at dksX21_remove_0 1 rfl rfl)
theorem dX21_remove_2 : decode cX21_remove 2 = .ok (.getfield 12, 3) := dk_180 0 12 (dk_at dksX21_remove_0 2 rfl rfl)
theorem dX21_remove_5 : decode cX21_remove 5 = .ok (.getfield 61, 3) := dk_180 0 61 (dk_at dksX21_remove_0 5 rfl rfl)
theorem dX21_remove_8 : decode cX21_remove 8 = .ok (.iload_n 1, 1) := dk_27 (dk_at dksX21_remove_0 8 rfl rfl)
theorem dX21_remove_9 : decode cX21_remove 9 = .ok (.iaload, 1) := dk_46 (dk_at dksX21_remove_0 9 rfl rfl)
theorem dX21_remove_10 : decode cX21_remove 10 = .ok (.invokevirtual 57, 3) := dk_182 0 57 (dk_at dksX21_remove_0 10 rfl rfl)
theorem dX21_remove_13 : decode cX21_remove 13 = .ok (.istore_n 2, 1) := dk_61 (dk_at dksX21_remove_0 13 rfl rfl)
theorem dX21_remove_14 : decode cX21_remove 14 = .ok (.iconst (-1), 1) := dk_2 (dk_at dksX21_remove_0 14 rfl rfl)
theorem dX21_remove_15 : decode cX21_remove 15 = .ok (.istore_n 3, 1) := dk_62 (dk_at dksX21_remove_0 15 rfl rfl)
theorem dX21_remove_16 : decode cX21_remove 16 = .ok (.aload_n 0, 1) := dk_42 (dk_at dksX21_remove_0 16 rfl rfl)
theorem dX21_remove_17 : decode cX21_remove 17 = .ok (.getfield 18, 3) := dk_180 0 18 (dk_at dksX21_remove_0 17 rfl rfl)
theorem dX21_remove_20 : decode cX21_remove 20 = .ok (.iload_n 2, 1) := dk_28 (dk_at dksX21_remove_0 20 rfl rfl)
theorem dX21_remove_21 : decode cX21_remove 21 = .ok (.iaload, 1) := dk_46 (dk_at dksX21_remove_0 21 rfl rfl)
theorem dX21_remove_22 : decode cX21_remove 22 = .ok (.istore 4, 2) := dk_54 4 (dk_at dksX21_remove_0 22 rfl rfl)
theorem dX21_remove_24 : decode cX21_remove 24 = .ok (.iload 4, 2) := dk_21 4 (dk_at dksX21_remove_1 0 rfl rfl)
theorem dX21_remove_26 : decode cX21_remove 26 = .ok (.iload_n 1, 1) := dk_27 (dk_at dksX21_remove_1 2 rfl rfl)
theorem dX21_remove_27 : decode cX21_remove 27 = .ok (.if_icmp .eq 21, 3) := dk_159 0 21 (dk_at dksX21_remove_1 3 rfl rfl)
theorem dX21_remove_30 : decode cX21_remove 30 = .ok (.iload 4, 2) := dk_21 4 (dk_at dksX21_remove_1 6 rfl rfl)
theorem dX21_remove_32 : decode cX21_remove 32 = .ok (.istore_n 3, 1) := dk_62 (dk_at dksX21_remove_1 8 rfl rfl)
theorem dX21_remove_33 : decode cX21_remove 33 = .ok (.aload_n 0, 1) := dk_42 (dk_at dksX21_remove_1 9 rfl rfl)
theorem dX21_remove_34 : decode cX21_remove 34 = .ok (.getfield 12, 3) := dk_180 0 12 (dk_at dksX21_remove_1 10 rfl rfl)
theorem dX21_remove_37 : decode cX21_remove 37 = .ok (.getfield 64, 3) := dk_180 0 64 (dk_at dksX21_remove_1 13 rfl rfl)
theorem dX21_remove_40 : decode cX21_remove 40 = .ok (.iload 4, 2) := dk_21 4 (dk_at dksX21_remove_1 16 rfl rfl)
theorem dX21_remove_42 : decode cX21_remove 42 = .ok (.iaload, 1) := dk_46 (dk_at dksX21_remove_1 18 rfl rfl)
theorem dX21_remove_43 : decode cX21_remove 43 = .ok (.istore 4, 2) := dk_54 4 (dk_at dksX21_remove_1 19 rfl rfl)
theorem dX21_remove_45 : decode cX21_remove 45 = .ok (.goto (-21), 3) := dk_167 255 235 (dk_at dksX21_remove_1 21 rfl rfl)
theorem dX21_remove_48 : decode cX21_remove 48 = .ok (.iload_n 3, 1) := dk_29 (dk_at dksX21_remove_2 0 rfl rfl)
theorem dX21_remove_49 : decode cX21_remove 49 = .ok (.ifCond .ge 21, 3) := dk_156 0 21 (dk_at dksX21_remove_2 1 rfl rfl)
theorem dX21_remove_52 : decode cX21_remove 52 = .ok (.aload_n 0, 1) := dk_42 (dk_at dksX21_remove_2 4 rfl rfl)
theorem dX21_remove_53 : decode cX21_remove 53 = .ok (.getfield 18, 3) := dk_180 0 18 (dk_at dksX21_remove_2 5 rfl rfl)
theorem dX21_remove_56 : decode cX21_remove 56 = .ok (.iload_n 2, 1) := dk_28 (dk_at dksX21_remove_2 8 rfl rfl)
theorem dX21_remove_57 : decode cX21_remove 57 = .ok (.aload_n 0, 1) := dk_42 (dk_at dksX21_remove_2 9 rfl rfl)
theorem dX21_remove_58 : decode cX21_remove 58 = .ok (.getfield 12, 3) := dk_180 0 12 (dk_at dksX21_remove_2 10 rfl rfl)
theorem dX21_remove_61 : decode cX21_remove 61 = .ok (.getfield 64, 3) := dk_180 0 64 (dk_at dksX21_remove_2 13 rfl rfl)
theorem dX21_remove_64 : decode cX21_remove 64 = .ok (.iload_n 1, 1) := dk_27 (dk_at dksX21_remove_2 16 rfl rfl)
theorem dX21_remove_65 : decode cX21_remove 65 = .ok (.iaload, 1) := dk_46 (dk_at dksX21_remove_2 17 rfl rfl)
theorem dX21_remove_66 : decode cX21_remove 66 = .ok (.iastore, 1) := dk_79 (dk_at dksX21_remove_2 18 rfl rfl)
theorem dX21_remove_67 : decode cX21_remove 67 = .ok (.goto 21, 3) := dk_167 0 21 (dk_at dksX21_remove_2 19 rfl rfl)
theorem dX21_remove_70 : decode cX21_remove 70 = .ok (.aload_n 0, 1) := dk_42 (dk_at dksX21_remove_2 22 rfl rfl)
theorem dX21_remove_71 : decode cX21_remove 71 = .ok (.getfield 12, 3) := dk_180 0 12 (dk_at dksX21_remove_3 0 rfl rfl)
theorem dX21_remove_74 : decode cX21_remove 74 = .ok (.getfield 64, 3) := dk_180 0 64 (dk_at dksX21_remove_3 3 rfl rfl)
theorem dX21_remove_77 : decode cX21_remove 77 = .ok (.iload_n 3, 1) := dk_29 (dk_at dksX21_remove_3 6 rfl rfl)
theorem dX21_remove_78 : decode cX21_remove 78 = .ok (.aload_n 0, 1) := dk_42 (dk_at dksX21_remove_3 7 rfl rfl)
theorem dX21_remove_79 : decode cX21_remove 79 = .ok (.getfield 12, 3) := dk_180 0 12 (dk_at dksX21_remove_3 8 rfl rfl)
theorem dX21_remove_82 : decode cX21_remove 82 = .ok (.getfield 64, 3) := dk_180 0 64 (dk_at dksX21_remove_3 11 rfl rfl)
theorem dX21_remove_85 : decode cX21_remove 85 = .ok (.iload_n 1, 1) := dk_27 (dk_at dksX21_remove_3 14 rfl rfl)
theorem dX21_remove_86 : decode cX21_remove 86 = .ok (.iaload, 1) := dk_46 (dk_at dksX21_remove_3 15 rfl rfl)
theorem dX21_remove_87 : decode cX21_remove 87 = .ok (.iastore, 1) := dk_79 (dk_at dksX21_remove_3 16 rfl rfl)
theorem dX21_remove_88 : decode cX21_remove 88 = .ok (.aload_n 0, 1) := dk_42 (dk_at dksX21_remove_3 17 rfl rfl)
theorem dX21_remove_89 : decode cX21_remove 89 = .ok (.getfield 22, 3) := dk_180 0 22 (dk_at dksX21_remove_3 18 rfl rfl)
theorem dX21_remove_92 : decode cX21_remove 92 = .ok (.iload_n 2, 1) := dk_28 (dk_at dksX21_remove_3 21 rfl rfl)
theorem dX21_remove_93 : decode cX21_remove 93 = .ok (.iaload, 1) := dk_46 (dk_at dksX21_remove_3 22 rfl rfl)
theorem dX21_remove_94 : decode cX21_remove 94 = .ok (.iload_n 1, 1) := dk_27 (dk_at dksX21_remove_3 23 rfl rfl)
theorem dX21_remove_95 : decode cX21_remove 95 = .ok (.if_icmp .ne 10, 3) := dk_160 0 10 (dk_at dksX21_remove_4 0 rfl rfl)
theorem dX21_remove_98 : decode cX21_remove 98 = .ok (.aload_n 0, 1) := dk_42 (dk_at dksX21_remove_4 3 rfl rfl)
theorem dX21_remove_99 : decode cX21_remove 99 = .ok (.getfield 22, 3) := dk_180 0 22 (dk_at dksX21_remove_4 4 rfl rfl)
theorem dX21_remove_102 : decode cX21_remove 102 = .ok (.iload_n 2, 1) := dk_28 (dk_at dksX21_remove_4 7 rfl rfl)
theorem dX21_remove_103 : decode cX21_remove 103 = .ok (.iload_n 3, 1) := dk_29 (dk_at dksX21_remove_4 8 rfl rfl)
theorem dX21_remove_104 : decode cX21_remove 104 = .ok (.iastore, 1) := dk_79 (dk_at dksX21_remove_4 9 rfl rfl)
theorem dX21_remove_105 : decode cX21_remove 105 = .ok (.aload_n 0, 1) := dk_42 (dk_at dksX21_remove_4 10 rfl rfl)
theorem dX21_remove_106 : decode cX21_remove 106 = .ok (.getfield 25, 3) := dk_180 0 25 (dk_at dksX21_remove_4 11 rfl rfl)
theorem dX21_remove_109 : decode cX21_remove 109 = .ok (.iload_n 2, 1) := dk_28 (dk_at dksX21_remove_4 14 rfl rfl)
theorem dX21_remove_110 : decode cX21_remove 110 = .ok (.dup2, 1) := dk_92 (dk_at dksX21_remove_4 15 rfl rfl)
theorem dX21_remove_111 : decode cX21_remove 111 = .ok (.iaload, 1) := dk_46 (dk_at dksX21_remove_4 16 rfl rfl)
theorem dX21_remove_112 : decode cX21_remove 112 = .ok (.iconst 1, 1) := dk_4 (dk_at dksX21_remove_4 17 rfl rfl)
theorem dX21_remove_113 : decode cX21_remove 113 = .ok (.isub, 1) := dk_100 (dk_at dksX21_remove_4 18 rfl rfl)
theorem dX21_remove_114 : decode cX21_remove 114 = .ok (.iastore, 1) := dk_79 (dk_at dksX21_remove_4 19 rfl rfl)
theorem dX21_remove_115 : decode cX21_remove 115 = .ok (.aload_n 0, 1) := dk_42 (dk_at dksX21_remove_4 20 rfl rfl)
theorem dX21_remove_116 : decode cX21_remove 116 = .ok (.getfield 25, 3) := dk_180 0 25 (dk_at dksX21_remove_4 21 rfl rfl)
theorem dX21_remove_119 : decode cX21_remove 119 = .ok (.iload_n 2, 1) := dk_28 (dk_at dksX21_remove_5 0 rfl rfl)
theorem dX21_remove_120 : decode cX21_remove 120 = .ok (.iaload, 1) := dk_46 (dk_at dksX21_remove_5 1 rfl rfl)
theorem dX21_remove_121 : decode cX21_remove 121 = .ok (.bipush 6, 2) := dk_16 6 (dk_at dksX21_remove_5 2 rfl rfl)
theorem dX21_remove_123 : decode cX21_remove 123 = .ok (.if_icmp .gt 10, 3) := dk_163 0 10 (dk_at dksX21_remove_5 4 rfl rfl)
theorem dX21_remove_126 : decode cX21_remove 126 = .ok (.aload_n 0, 1) := dk_42 (dk_at dksX21_remove_5 7 rfl rfl)
theorem dX21_remove_127 : decode cX21_remove 127 = .ok (.getfield 28, 3) := dk_180 0 28 (dk_at dksX21_remove_5 8 rfl rfl)
theorem dX21_remove_130 : decode cX21_remove 130 = .ok (.iload_n 2, 1) := dk_28 (dk_at dksX21_remove_5 11 rfl rfl)
theorem dX21_remove_131 : decode cX21_remove 131 = .ok (.iconst 0, 1) := dk_3 (dk_at dksX21_remove_5 12 rfl rfl)
theorem dX21_remove_132 : decode cX21_remove 132 = .ok (.bastore, 1) := dk_84 (dk_at dksX21_remove_5 13 rfl rfl)
theorem dX21_remove_133 : decode cX21_remove 133 = .ok (.aload_n 0, 1) := dk_42 (dk_at dksX21_remove_5 14 rfl rfl)
theorem dX21_remove_134 : decode cX21_remove 134 = .ok (.getfield 12, 3) := dk_180 0 12 (dk_at dksX21_remove_5 15 rfl rfl)
theorem dX21_remove_137 : decode cX21_remove 137 = .ok (.iload_n 1, 1) := dk_27 (dk_at dksX21_remove_5 18 rfl rfl)
theorem dX21_remove_138 : decode cX21_remove 138 = .ok (.invokevirtual 94, 3) := dk_182 0 94 (dk_at dksX21_remove_5 19 rfl rfl)
theorem dX21_remove_141 : decode cX21_remove 141 = .ok (.aload_n 0, 1) := dk_42 (dk_at dksX21_remove_5 22 rfl rfl)
theorem dX21_remove_142 : decode cX21_remove 142 = .ok (.dup, 1) := dk_89 (dk_at dksX21_remove_5 23 rfl rfl)
theorem dX21_remove_143 : decode cX21_remove 143 = .ok (.getfield 46, 3) := dk_180 0 46 (dk_at dksX21_remove_6 0 rfl rfl)
theorem dX21_remove_146 : decode cX21_remove 146 = .ok (.iconst 1, 1) := dk_4 (dk_at dksX21_remove_6 3 rfl rfl)
theorem dX21_remove_147 : decode cX21_remove 147 = .ok (.iadd, 1) := dk_96 (dk_at dksX21_remove_6 4 rfl rfl)
theorem dX21_remove_148 : decode cX21_remove 148 = .ok (.putfield 46, 3) := dk_181 0 46 (dk_at dksX21_remove_6 5 rfl rfl)
theorem dX21_remove_151 : decode cX21_remove 151 = .ok (.return_, 1) := dk_177 (dk_at dksX21_remove_6 8 rfl rfl)
abbrev cX21_size : ByteArray := prog_10_method_4_code
def yX21_size : MethodName := ⟨RX21, "size", "()I"⟩
def dkwX21_size_0 : List UInt8 := [42, 180, 0, 12, 180, 0, 54, 172]
abbrev dktX21_size_0 : List UInt8 := dkwX21_size_0 ++ []
theorem dksX21_size_0 : cX21_size.data.toList.drop 0 = dktX21_size_0 := by decide +kernel
theorem dX21_size_0 : decode cX21_size 0 = .ok (.aload_n 0, 1) := dk_42 (dk_at dksX21_size_0 0 rfl rfl)
theorem dX21_size_1 : decode cX21_size 1 = .ok (.getfield 12, 3) := dk_180 0 12 (dk_at dksX21_size_0 1 rfl rfl)
theorem dX21_size_4 : decode cX21_size 4 = .ok (.getfield 54, 3) := dk_180 0 54 (dk_at dksX21_size_0 4 rfl rfl)
theorem dX21_size_7 : decode cX21_size 7 = .ok (.ireturn, 1) := dk_172 (dk_at dksX21_size_0 7 rfl rfl)
abbrev cX21_clear : ByteArray := prog_10_method_20_code
def yX21_clear : MethodName := ⟨RX21, "clea\x72", "()V"⟩
def dkwX21_clear_1 : List UInt8 := [182, 0, 32, 42, 3, 42, 180, 0, 36, 182, 0, 81, 177]
abbrev dktX21_clear_1 : List UInt8 := dkwX21_clear_1 ++ []
def dkwX21_clear_0 : List UInt8 := [42, 180, 0, 12, 180, 0, 54, 158, 0, 13, 42, 89, 180, 0, 46, 4, 96, 181, 0, 46, 42, 180, 0, 12]
abbrev dktX21_clear_0 : List UInt8 := dkwX21_clear_0 ++ dktX21_clear_1
theorem dksX21_clear_0 : cX21_clear.data.toList.drop 0 = dktX21_clear_0 := by decide +kernel
theorem dksX21_clear_1 : cX21_clear.data.toList.drop 24 = dktX21_clear_1 := dk_seg dksX21_clear_0 24 rfl rfl
theorem dX21_clear_0 : decode cX21_clear 0 = .ok (.aload_n 0, 1) := dk_42 (dk_at dksX21_clear_0 0 rfl rfl)
theorem dX21_clear_1 : decode cX21_clear 1 = .ok (.getfield 12, 3) := dk_180 0 12 (dk_at dksX21_clear_0 1 rfl rfl)
theorem dX21_clear_4 : decode cX21_clear 4 = .ok (.getfield 54, 3) := dk_180 0 54 (dk_at dksX21_clear_0 4 rfl rfl)
theorem dX21_clear_7 : decode cX21_clear 7 = .ok (.ifCond .le 13, 3) := dk_158 0 13 (dk_at dksX21_clear_0 7 rfl rfl)
theorem dX21_clear_10 : decode cX21_clear 10 = .ok (.aload_n 0, 1) := dk_42 (dk_at dksX21_clear_0 10 rfl rfl)
theorem dX21_clear_11 : decode cX21_clear 11 = .ok (.dup, 1) := dk_89 (dk_at dksX21_clear_0 11 rfl rfl)
theorem dX21_clear_12 : decode cX21_clear 12 = .ok (.getfield 46, 3) := dk_180 0 46 (dk_at dksX21_clear_0 12 rfl rfl)
theorem dX21_clear_15 : decode cX21_clear 15 = .ok (.iconst 1, 1) := dk_4 (dk_at dksX21_clear_0 15 rfl rfl)
theorem dX21_clear_16 : decode cX21_clear 16 = .ok (.iadd, 1) := dk_96 (dk_at dksX21_clear_0 16 rfl rfl)
theorem dX21_clear_17 : decode cX21_clear 17 = .ok (.putfield 46, 3) := dk_181 0 46 (dk_at dksX21_clear_0 17 rfl rfl)
theorem dX21_clear_20 : decode cX21_clear 20 = .ok (.aload_n 0, 1) := dk_42 (dk_at dksX21_clear_0 20 rfl rfl)
theorem dX21_clear_21 : decode cX21_clear 21 = .ok (.getfield 12, 3) := dk_180 0 12 (dk_at dksX21_clear_0 21 rfl rfl)
theorem dX21_clear_24 : decode cX21_clear 24 = .ok (.invokevirtual 32, 3) := dk_182 0 32 (dk_at dksX21_clear_1 0 rfl rfl)
theorem dX21_clear_27 : decode cX21_clear 27 = .ok (.aload_n 0, 1) := dk_42 (dk_at dksX21_clear_1 3 rfl rfl)
theorem dX21_clear_28 : decode cX21_clear 28 = .ok (.iconst 0, 1) := dk_3 (dk_at dksX21_clear_1 4 rfl rfl)
theorem dX21_clear_29 : decode cX21_clear 29 = .ok (.aload_n 0, 1) := dk_42 (dk_at dksX21_clear_1 5 rfl rfl)
theorem dX21_clear_30 : decode cX21_clear 30 = .ok (.getfield 36, 3) := dk_180 0 36 (dk_at dksX21_clear_1 6 rfl rfl)
theorem dX21_clear_33 : decode cX21_clear 33 = .ok (.invokevirtual 81, 3) := dk_182 0 81 (dk_at dksX21_clear_1 9 rfl rfl)
theorem dX21_clear_36 : decode cX21_clear 36 = .ok (.return_, 1) := dk_177 (dk_at dksX21_clear_1 12 rfl rfl)
abbrev cX21_first : ByteArray := prog_10_method_9_code
def yX21_first : MethodName := ⟨RX21, "first", "()I"⟩
def dkwX21_first_0 : List UInt8 := [42, 3, 182, 0, 67, 172]
abbrev dktX21_first_0 : List UInt8 := dkwX21_first_0 ++ []
theorem dksX21_first_0 : cX21_first.data.toList.drop 0 = dktX21_first_0 := by decide +kernel
theorem dX21_first_0 : decode cX21_first 0 = .ok (.aload_n 0, 1) := dk_42 (dk_at dksX21_first_0 0 rfl rfl)
theorem dX21_first_1 : decode cX21_first 1 = .ok (.iconst 0, 1) := dk_3 (dk_at dksX21_first_0 1 rfl rfl)
theorem dX21_first_2 : decode cX21_first 2 = .ok (.invokevirtual 67, 3) := dk_182 0 67 (dk_at dksX21_first_0 2 rfl rfl)
theorem dX21_first_5 : decode cX21_first 5 = .ok (.ireturn, 1) := dk_172 (dk_at dksX21_first_0 5 rfl rfl)
abbrev cX21_from : ByteArray := prog_10_method_8_code
def yX21_from : MethodName := ⟨RX21, "from", "(I)I"⟩
def dkwX21_from_1 : List UInt8 := [46, 172, 132, 2, 1, 167, 255, 229, 2, 172]
abbrev dktX21_from_1 : List UInt8 := dkwX21_from_1 ++ []
def dkwX21_from_0 : List UInt8 := [27, 61, 28, 42, 180, 0, 36, 162, 0, 25, 42, 180, 0, 18, 28, 46, 155, 0, 10, 42, 180, 0, 18, 28]
abbrev dktX21_from_0 : List UInt8 := dkwX21_from_0 ++ dktX21_from_1
theorem dksX21_from_0 : cX21_from.data.toList.drop 0 = dktX21_from_0 := by decide +kernel
theorem dksX21_from_1 : cX21_from.data.toList.drop 24 = dktX21_from_1 := dk_seg dksX21_from_0 24 rfl rfl
theorem dX21_from_0 : decode cX21_from 0 = .ok (.iload_n 1, 1) := dk_27 (dk_at dksX21_from_0 0 rfl rfl)
theorem dX21_from_1 : decode cX21_from 1 = .ok (.istore_n 2, 1) := dk_61 (dk_at dksX21_from_0 1 rfl rfl)
theorem dX21_from_2 : decode cX21_from 2 = .ok (.iload_n 2, 1) := dk_28 (dk_at dksX21_from_0 2 rfl rfl)
theorem dX21_from_3 : decode cX21_from 3 = .ok (.aload_n 0, 1) := dk_42 (dk_at dksX21_from_0 3 rfl rfl)
theorem dX21_from_4 : decode cX21_from 4 = .ok (.getfield 36, 3) := dk_180 0 36 (dk_at dksX21_from_0 4 rfl rfl)
theorem dX21_from_7 : decode cX21_from 7 = .ok (.if_icmp .ge 25, 3) := dk_162 0 25 (dk_at dksX21_from_0 7 rfl rfl)
theorem dX21_from_10 : decode cX21_from 10 = .ok (.aload_n 0, 1) := dk_42 (dk_at dksX21_from_0 10 rfl rfl)
theorem dX21_from_11 : decode cX21_from 11 = .ok (.getfield 18, 3) := dk_180 0 18 (dk_at dksX21_from_0 11 rfl rfl)
theorem dX21_from_14 : decode cX21_from 14 = .ok (.iload_n 2, 1) := dk_28 (dk_at dksX21_from_0 14 rfl rfl)
theorem dX21_from_15 : decode cX21_from 15 = .ok (.iaload, 1) := dk_46 (dk_at dksX21_from_0 15 rfl rfl)
theorem dX21_from_16 : decode cX21_from 16 = .ok (.ifCond .lt 10, 3) := dk_155 0 10 (dk_at dksX21_from_0 16 rfl rfl)
theorem dX21_from_19 : decode cX21_from 19 = .ok (.aload_n 0, 1) := dk_42 (dk_at dksX21_from_0 19 rfl rfl)
theorem dX21_from_20 : decode cX21_from 20 = .ok (.getfield 18, 3) := dk_180 0 18 (dk_at dksX21_from_0 20 rfl rfl)
theorem dX21_from_23 : decode cX21_from 23 = .ok (.iload_n 2, 1) := dk_28 (dk_at dksX21_from_0 23 rfl rfl)
theorem dX21_from_24 : decode cX21_from 24 = .ok (.iaload, 1) := dk_46 (dk_at dksX21_from_1 0 rfl rfl)
theorem dX21_from_25 : decode cX21_from 25 = .ok (.ireturn, 1) := dk_172 (dk_at dksX21_from_1 1 rfl rfl)
theorem dX21_from_26 : decode cX21_from 26 = .ok (.iinc 2 1, 3) := dk_132 2 1 (dk_at dksX21_from_1 2 rfl rfl)
theorem dX21_from_29 : decode cX21_from 29 = .ok (.goto (-27), 3) := dk_167 255 229 (dk_at dksX21_from_1 5 rfl rfl)
theorem dX21_from_32 : decode cX21_from 32 = .ok (.iconst (-1), 1) := dk_2 (dk_at dksX21_from_1 8 rfl rfl)
theorem dX21_from_33 : decode cX21_from 33 = .ok (.ireturn, 1) := dk_172 (dk_at dksX21_from_1 9 rfl rfl)
abbrev cX21_next : ByteArray := prog_10_method_11_code
def yX21_next : MethodName := ⟨RX21, "next", "(I)I"⟩
def dkwX21_next_1 : List UInt8 := [42, 42, 42, 180, 0, 12, 180, 0, 61, 27, 46, 182, 0, 57, 4, 96, 182, 0, 67, 172]
abbrev dktX21_next_1 : List UInt8 := dkwX21_next_1 ++ []
def dkwX21_next_0 : List UInt8 := [42, 180, 0, 12, 180, 0, 64, 27, 46, 155, 0, 15, 42, 180, 0, 12, 180, 0, 64, 27, 46, 167, 0, 22]
abbrev dktX21_next_0 : List UInt8 := dkwX21_next_0 ++ dktX21_next_1
theorem dksX21_next_0 : cX21_next.data.toList.drop 0 = dktX21_next_0 := by decide +kernel
theorem dksX21_next_1 : cX21_next.data.toList.drop 24 = dktX21_next_1 := dk_seg dksX21_next_0 24 rfl rfl
theorem dX21_next_0 : decode cX21_next 0 = .ok (.aload_n 0, 1) := dk_42 (dk_at dksX21_next_0 0 rfl rfl)
theorem dX21_next_1 : decode cX21_next 1 = .ok (.getfield 12, 3) := dk_180 0 12 (dk_at dksX21_next_0 1 rfl rfl)
theorem dX21_next_4 : decode cX21_next 4 = .ok (.getfield 64, 3) := dk_180 0 64 (dk_at dksX21_next_0 4 rfl rfl)
theorem dX21_next_7 : decode cX21_next 7 = .ok (.iload_n 1, 1) := dk_27 (dk_at dksX21_next_0 7 rfl rfl)
theorem dX21_next_8 : decode cX21_next 8 = .ok (.iaload, 1) := dk_46 (dk_at dksX21_next_0 8 rfl rfl)
theorem dX21_next_9 : decode cX21_next 9 = .ok (.ifCond .lt 15, 3) := dk_155 0 15 (dk_at dksX21_next_0 9 rfl rfl)
theorem dX21_next_12 : decode cX21_next 12 = .ok (.aload_n 0, 1) := dk_42 (dk_at dksX21_next_0 12 rfl rfl)
theorem dX21_next_13 : decode cX21_next 13 = .ok (.getfield 12, 3) := dk_180 0 12 (dk_at dksX21_next_0 13 rfl rfl)
theorem dX21_next_16 : decode cX21_next 16 = .ok (.getfield 64, 3) := dk_180 0 64 (dk_at dksX21_next_0 16 rfl rfl)
theorem dX21_next_19 : decode cX21_next 19 = .ok (.iload_n 1, 1) := dk_27 (dk_at dksX21_next_0 19 rfl rfl)
theorem dX21_next_20 : decode cX21_next 20 = .ok (.iaload, 1) := dk_46 (dk_at dksX21_next_0 20 rfl rfl)
theorem dX21_next_21 : decode cX21_next 21 = .ok (.goto 22, 3) := dk_167 0 22 (dk_at dksX21_next_0 21 rfl rfl)
theorem dX21_next_24 : decode cX21_next 24 = .ok (.aload_n 0, 1) := dk_42 (dk_at dksX21_next_1 0 rfl rfl)
theorem dX21_next_25 : decode cX21_next 25 = .ok (.aload_n 0, 1) := dk_42 (dk_at dksX21_next_1 1 rfl rfl)
theorem dX21_next_26 : decode cX21_next 26 = .ok (.aload_n 0, 1) := dk_42 (dk_at dksX21_next_1 2 rfl rfl)
theorem dX21_next_27 : decode cX21_next 27 = .ok (.getfield 12, 3) := dk_180 0 12 (dk_at dksX21_next_1 3 rfl rfl)
theorem dX21_next_30 : decode cX21_next 30 = .ok (.getfield 61, 3) := dk_180 0 61 (dk_at dksX21_next_1 6 rfl rfl)
theorem dX21_next_33 : decode cX21_next 33 = .ok (.iload_n 1, 1) := dk_27 (dk_at dksX21_next_1 9 rfl rfl)
theorem dX21_next_34 : decode cX21_next 34 = .ok (.iaload, 1) := dk_46 (dk_at dksX21_next_1 10 rfl rfl)
theorem dX21_next_35 : decode cX21_next 35 = .ok (.invokevirtual 57, 3) := dk_182 0 57 (dk_at dksX21_next_1 11 rfl rfl)
theorem dX21_next_38 : decode cX21_next 38 = .ok (.iconst 1, 1) := dk_4 (dk_at dksX21_next_1 14 rfl rfl)
theorem dX21_next_39 : decode cX21_next 39 = .ok (.iadd, 1) := dk_96 (dk_at dksX21_next_1 15 rfl rfl)
theorem dX21_next_40 : decode cX21_next 40 = .ok (.invokevirtual 67, 3) := dk_182 0 67 (dk_at dksX21_next_1 16 rfl rfl)
theorem dX21_next_43 : decode cX21_next 43 = .ok (.ireturn, 1) := dk_172 (dk_at dksX21_next_1 19 rfl rfl)
abbrev cX21_last : ByteArray := prog_10_method_10_code
def yX21_last : MethodName := ⟨RX21, "last", "()I"⟩
def dkwX21_last_0 : List UInt8 := [187, 0, 70, 89, 183, 0, 72, 191]
abbrev dktX21_last_0 : List UInt8 := dkwX21_last_0 ++ []
theorem dksX21_last_0 : cX21_last.data.toList.drop 0 = dktX21_last_0 := by decide +kernel
theorem dX21_last_0 : decode cX21_last 0 = .ok (.new 70, 3) := dk_187 0 70 (dk_at dksX21_last_0 0 rfl rfl)
theorem dX21_last_3 : decode cX21_last 3 = .ok (.dup, 1) := dk_89 (dk_at dksX21_last_0 3 rfl rfl)
theorem dX21_last_4 : decode cX21_last 4 = .ok (.invokespecial 72, 3) := dk_183 0 72 (dk_at dksX21_last_0 4 rfl rfl)
theorem dX21_last_7 : decode cX21_last 7 = .ok (.athrow, 1) := dk_191 (dk_at dksX21_last_0 7 rfl rfl)
abbrev cX21_key : ByteArray := prog_10_method_12_code
def yX21_key : MethodName := ⟨RX21, "key", "(I)I"⟩
def dkwX21_key_0 : List UInt8 := [42, 180, 0, 12, 180, 0, 61, 27, 46, 172]
abbrev dktX21_key_0 : List UInt8 := dkwX21_key_0 ++ []
theorem dksX21_key_0 : cX21_key.data.toList.drop 0 = dktX21_key_0 := by decide +kernel
theorem dX21_key_0 : decode cX21_key 0 = .ok (.aload_n 0, 1) := dk_42 (dk_at dksX21_key_0 0 rfl rfl)
theorem dX21_key_1 : decode cX21_key 1 = .ok (.getfield 12, 3) := dk_180 0 12 (dk_at dksX21_key_0 1 rfl rfl)
theorem dX21_key_4 : decode cX21_key 4 = .ok (.getfield 61, 3) := dk_180 0 61 (dk_at dksX21_key_0 4 rfl rfl)
theorem dX21_key_7 : decode cX21_key 7 = .ok (.iload_n 1, 1) := dk_27 (dk_at dksX21_key_0 7 rfl rfl)
theorem dX21_key_8 : decode cX21_key 8 = .ok (.iaload, 1) := dk_46 (dk_at dksX21_key_0 8 rfl rfl)
theorem dX21_key_9 : decode cX21_key 9 = .ok (.ireturn, 1) := dk_172 (dk_at dksX21_key_0 9 rfl rfl)
abbrev cX21_bushyBins : ByteArray := prog_10_method_21_code
def yX21_bushyBins : MethodName := ⟨RX21, "bushyBins", "()I"⟩
def dkwX21_bushyBins_1 : List UInt8 := [132, 2, 1, 167, 255, 233, 27, 172]
abbrev dktX21_bushyBins_1 : List UInt8 := dkwX21_bushyBins_1 ++ []
def dkwX21_bushyBins_0 : List UInt8 := [3, 60, 3, 61, 28, 42, 180, 0, 36, 162, 0, 21, 42, 180, 0, 28, 28, 51, 153, 0, 6, 132, 1, 1]
abbrev dktX21_bushyBins_0 : List UInt8 := dkwX21_bushyBins_0 ++ dktX21_bushyBins_1
theorem dksX21_bushyBins_0 : cX21_bushyBins.data.toList.drop 0 = dktX21_bushyBins_0 := by decide +kernel
theorem dksX21_bushyBins_1 : cX21_bushyBins.data.toList.drop 24 = dktX21_bushyBins_1 := dk_seg dksX21_bushyBins_0 24 rfl rfl
theorem dX21_bushyBins_0 : decode cX21_bushyBins 0 = .ok (.iconst 0, 1) := dk_3 (dk_at dksX21_bushyBins_0 0 rfl rfl)
theorem dX21_bushyBins_1 : decode cX21_bushyBins 1 = .ok (.istore_n 1, 1) := dk_60 (dk_at dksX21_bushyBins_0 1 rfl rfl)
theorem dX21_bushyBins_2 : decode cX21_bushyBins 2 = .ok (.iconst 0, 1) := dk_3 (dk_at dksX21_bushyBins_0 2 rfl rfl)
theorem dX21_bushyBins_3 : decode cX21_bushyBins 3 = .ok (.istore_n 2, 1) := dk_61 (dk_at dksX21_bushyBins_0 3 rfl rfl)
theorem dX21_bushyBins_4 : decode cX21_bushyBins 4 = .ok (.iload_n 2, 1) := dk_28 (dk_at dksX21_bushyBins_0 4 rfl rfl)
theorem dX21_bushyBins_5 : decode cX21_bushyBins 5 = .ok (.aload_n 0, 1) := dk_42 (dk_at dksX21_bushyBins_0 5 rfl rfl)
theorem dX21_bushyBins_6 : decode cX21_bushyBins 6 = .ok (.getfield 36, 3) := dk_180 0 36 (dk_at dksX21_bushyBins_0 6 rfl rfl)
theorem dX21_bushyBins_9 : decode cX21_bushyBins 9 = .ok (.if_icmp .ge 21, 3) := dk_162 0 21 (dk_at dksX21_bushyBins_0 9 rfl rfl)
theorem dX21_bushyBins_12 : decode cX21_bushyBins 12 = .ok (.aload_n 0, 1) := dk_42 (dk_at dksX21_bushyBins_0 12 rfl rfl)
theorem dX21_bushyBins_13 : decode cX21_bushyBins 13 = .ok (.getfield 28, 3) := dk_180 0 28 (dk_at dksX21_bushyBins_0 13 rfl rfl)
theorem dX21_bushyBins_16 : decode cX21_bushyBins 16 = .ok (.iload_n 2, 1) := dk_28 (dk_at dksX21_bushyBins_0 16 rfl rfl)
theorem dX21_bushyBins_17 : decode cX21_bushyBins 17 = .ok (.baload, 1) := dk_51 (dk_at dksX21_bushyBins_0 17 rfl rfl)
theorem dX21_bushyBins_18 : decode cX21_bushyBins 18 = .ok (.ifCond .eq 6, 3) := dk_153 0 6 (dk_at dksX21_bushyBins_0 18 rfl rfl)
theorem dX21_bushyBins_21 : decode cX21_bushyBins 21 = .ok (.iinc 1 1, 3) := dk_132 1 1 (dk_at dksX21_bushyBins_0 21 rfl rfl)
theorem dX21_bushyBins_24 : decode cX21_bushyBins 24 = .ok (.iinc 2 1, 3) := dk_132 2 1 (dk_at dksX21_bushyBins_1 0 rfl rfl)
theorem dX21_bushyBins_27 : decode cX21_bushyBins 27 = .ok (.goto (-23), 3) := dk_167 255 233 (dk_at dksX21_bushyBins_1 3 rfl rfl)
theorem dX21_bushyBins_30 : decode cX21_bushyBins 30 = .ok (.iload_n 1, 1) := dk_27 (dk_at dksX21_bushyBins_1 6 rfl rfl)
theorem dX21_bushyBins_31 : decode cX21_bushyBins 31 = .ok (.ireturn, 1) := dk_172 (dk_at dksX21_bushyBins_1 7 rfl rfl)
abbrev cX21_changes : ByteArray := prog_10_method_5_code
def yX21_changes : MethodName := ⟨RX21, "changes", "()I"⟩
theorem dX21_changes_0 : decode cX21_changes 0 = .ok (.aload_n 0, 1) := by decide +kernel
theorem dX21_changes_1 : decode cX21_changes 1 = .ok (.getfield 46, 3) := by decide +kernel
theorem dX21_changes_4 : decode cX21_changes 4 = .ok (.ireturn, 1) := by decide +kernel
theorem q537 : (Jvm.Cond.initialized "LibraryDesk$HashThing") ∈ lw_all := lw_g (lw_at lw_m1 30 rfl) rfl
theorem q1433 : (Jvm.Cond.instantiable "LibraryDesk$HashThing" (11 : Nat)) ∈ lw_all := lw_g (lw_at lw_m4 206 rfl) rfl
theorem q1435 : (Jvm.Cond.instanceMethod ({ cls := "LibraryDesk$HashThing", name := "<init>", desc := "()V" } : Jvm.MethodName)) ∈ lw_all := lw_g (lw_at lw_m4 208 rfl) rfl
theorem q1436 : (Jvm.Cond.code ({ cls := "LibraryDesk$HashThing", name := "<init>", desc := "()V" } : Jvm.MethodName) prog_10_method_1_code (1 : Nat) (Option.none : Option Jvm.ClassFile.FieldType)) ∈ lw_all := lw_g (lw_at lw_m4 209 rfl) rfl
theorem q1437 : (Jvm.Cond.methodLinkNest "LibraryDesk$HashThing" (3 : Nat) ({ cls := "LibraryDesk$Maps", name := "<init>", desc := "(I)V" } : Jvm.MethodName) "LibraryDesk") ∈ lw_tbl := lw_at lw_m4 210 rfl
theorem q1441 : (Jvm.Cond.classLink "LibraryDesk$HashThing" (9 : Nat) "LibraryDesk$Slots") ∈ lw_all := lw_g (lw_at lw_m4 214 rfl) rfl
theorem q1443 : (Jvm.Cond.methodLinkNest "LibraryDesk$HashThing" (11 : Nat) ({ cls := "LibraryDesk$Slots", name := "<init>", desc := "(I)V" } : Jvm.MethodName) "LibraryDesk") ∈ lw_tbl := lw_at lw_m4 216 rfl
theorem q1450 : (Jvm.Cond.fieldLinkNest "LibraryDesk$HashThing" (61 : Nat) "LibraryDesk$Slots" "key" "[I" "LibraryDesk") ∈ lw_tbl := lw_at lw_m4 223 rfl
theorem q1453 : (Jvm.Cond.fieldLinkNest "LibraryDesk$HashThing" (74 : Nat) "LibraryDesk$Slots" "value" "[I" "LibraryDesk") ∈ lw_tbl := lw_at lw_m4 226 rfl
theorem q1457 : (Jvm.Cond.fieldLinkNest "LibraryDesk$HashThing" (64 : Nat) "LibraryDesk$Slots" "next" "[I" "LibraryDesk") ∈ lw_tbl := lw_at lw_m4 230 rfl
theorem q1461 : (Jvm.Cond.fieldLinkNest "LibraryDesk$HashThing" (54 : Nat) "LibraryDesk$Slots" "size" "I" "LibraryDesk") ∈ lw_tbl := lw_at lw_m4 234 rfl
theorem q1477 : (Jvm.Cond.fieldLink "LibraryDesk$HashThing" (12 : Nat) "LibraryDesk$HashThing" "slots" "LLibraryDesk$Slots;") ∈ lw_all := lw_g (lw_at lw_m5 10 rfl) rfl
theorem q1478 : (Jvm.Cond.fieldLink "LibraryDesk$HashThing" (18 : Nat) "LibraryDesk$HashThing" "heads" "[I") ∈ lw_all := lw_g (lw_at lw_m5 11 rfl) rfl
theorem q1479 : (Jvm.Cond.fieldLink "LibraryDesk$HashThing" (22 : Nat) "LibraryDesk$HashThing" "tails" "[I") ∈ lw_all := lw_g (lw_at lw_m5 12 rfl) rfl
theorem q1480 : (Jvm.Cond.fieldLink "LibraryDesk$HashThing" (25 : Nat) "LibraryDesk$HashThing" "counts" "[I") ∈ lw_all := lw_g (lw_at lw_m5 13 rfl) rfl
theorem q1481 : (Jvm.Cond.fieldLink "LibraryDesk$HashThing" (28 : Nat) "LibraryDesk$HashThing" "bushy" "[Z") ∈ lw_all := lw_g (lw_at lw_m5 14 rfl) rfl
theorem q1482 : (Jvm.Cond.fieldLink "LibraryDesk$HashThing" (36 : Nat) "LibraryDesk$HashThing" "table" "I") ∈ lw_all := lw_g (lw_at lw_m5 15 rfl) rfl
theorem q1484 : (Jvm.Cond.fieldLink "LibraryDesk$HashThing" (40 : Nat) "LibraryDesk$HashThing" "asked" "I") ∈ lw_all := lw_g (lw_at lw_m5 17 rfl) rfl
theorem q1485 : (Jvm.Cond.fieldLink "LibraryDesk$HashThing" (43 : Nat) "LibraryDesk$HashThing" "rule" "I") ∈ lw_all := lw_g (lw_at lw_m5 18 rfl) rfl
theorem q1486 : (Jvm.Cond.fieldLink "LibraryDesk$HashThing" (46 : Nat) "LibraryDesk$HashThing" "changes" "I") ∈ lw_all := lw_g (lw_at lw_m5 19 rfl) rfl
theorem q1487 : (Jvm.Cond.laysFinal "LibraryDesk$HashThing" "LibraryDesk$HashThing" "slots" "LLibraryDesk$Slots;") ∈ lw_all := lw_g (lw_at lw_m5 20 rfl) rfl
theorem q1488 : (Jvm.Cond.soleField "LibraryDesk$HashThing" "slots") ∈ lw_all := lw_g (lw_at lw_m5 21 rfl) rfl
theorem q1489 : (Jvm.Cond.laysFinal "LibraryDesk$HashThing" "LibraryDesk$HashThing" "heads" "[I") ∈ lw_all := lw_g (lw_at lw_m5 22 rfl) rfl
theorem q1490 : (Jvm.Cond.soleField "LibraryDesk$HashThing" "heads") ∈ lw_all := lw_g (lw_at lw_m5 23 rfl) rfl
theorem q1491 : (Jvm.Cond.laysFinal "LibraryDesk$HashThing" "LibraryDesk$HashThing" "tails" "[I") ∈ lw_all := lw_g (lw_at lw_m5 24 rfl) rfl
theorem q1492 : (Jvm.Cond.soleField "LibraryDesk$HashThing" "tails") ∈ lw_all := lw_g (lw_at lw_m5 25 rfl) rfl
theorem q1493 : (Jvm.Cond.laysFinal "LibraryDesk$HashThing" "LibraryDesk$HashThing" "counts" "[I") ∈ lw_all := lw_g (lw_at lw_m5 26 rfl) rfl
theorem q1494 : (Jvm.Cond.soleField "LibraryDesk$HashThing" "counts") ∈ lw_all := lw_g (lw_at lw_m5 27 rfl) rfl
theorem q1495 : (Jvm.Cond.laysFinal "LibraryDesk$HashThing" "LibraryDesk$HashThing" "bushy" "[Z") ∈ lw_all := lw_g (lw_at lw_m5 28 rfl) rfl
theorem q1496 : (Jvm.Cond.soleField "LibraryDesk$HashThing" "bushy") ∈ lw_all := lw_g (lw_at lw_m5 29 rfl) rfl
theorem q1497 : (Jvm.Cond.lays "LibraryDesk$HashThing" "LibraryDesk$HashThing" "table" "I") ∈ lw_all := lw_g (lw_at lw_m5 30 rfl) rfl
theorem q1498 : (Jvm.Cond.soleField "LibraryDesk$HashThing" "table") ∈ lw_all := lw_g (lw_at lw_m5 31 rfl) rfl
theorem q1499 : (Jvm.Cond.lays "LibraryDesk$HashThing" "LibraryDesk$HashThing" "asked" "I") ∈ lw_all := lw_g (lw_at lw_m5 32 rfl) rfl
theorem q1500 : (Jvm.Cond.soleField "LibraryDesk$HashThing" "asked") ∈ lw_all := lw_g (lw_at lw_m5 33 rfl) rfl
theorem q1501 : (Jvm.Cond.lays "LibraryDesk$HashThing" "LibraryDesk$HashThing" "rule" "I") ∈ lw_all := lw_g (lw_at lw_m5 34 rfl) rfl
theorem q1502 : (Jvm.Cond.soleField "LibraryDesk$HashThing" "rule") ∈ lw_all := lw_g (lw_at lw_m5 35 rfl) rfl
theorem q1503 : (Jvm.Cond.lays "LibraryDesk$HashThing" "LibraryDesk$HashThing" "changes" "I") ∈ lw_all := lw_g (lw_at lw_m5 36 rfl) rfl
theorem q1504 : (Jvm.Cond.soleField "LibraryDesk$HashThing" "changes") ∈ lw_all := lw_g (lw_at lw_m5 37 rfl) rfl
theorem q1505 : (Jvm.Cond.laysFinal "LibraryDesk$HashThing" "LibraryDesk$Thing" "kind" "I") ∈ lw_all := lw_g (lw_at lw_m5 38 rfl) rfl
theorem q1506 : (Jvm.Cond.lays "LibraryDesk$HashThing" "LibraryDesk$Thing" "used" "Z") ∈ lw_all := lw_g (lw_at lw_m5 39 rfl) rfl
theorem q1507 : (Jvm.Cond.superclass "LibraryDesk$HashThing" "LibraryDesk$Maps") ∈ lw_all := lw_g (lw_at lw_m5 40 rfl) rfl
theorem q1887 : (Jvm.Cond.privateMethod ({ cls := "LibraryDesk$HashThing", name := "begin", desc := "(II)V" } : Jvm.MethodName)) ∈ lw_tbl := lw_at lw_m6 180 rfl
theorem q1888 : (Jvm.Cond.instanceMethod ({ cls := "LibraryDesk$HashThing", name := "begin", desc := "(II)V" } : Jvm.MethodName)) ∈ lw_all := lw_g (lw_at lw_m6 181 rfl) rfl
theorem q1889 : (Jvm.Cond.code ({ cls := "LibraryDesk$HashThing", name := "begin", desc := "(II)V" } : Jvm.MethodName) prog_10_method_2_code (3 : Nat) (Option.none : Option Jvm.ClassFile.FieldType)) ∈ lw_all := lw_g (lw_at lw_m6 182 rfl) rfl
theorem q1890 : (Jvm.Cond.methodLinkNest "LibraryDesk$HashThing" (32 : Nat) ({ cls := "LibraryDesk$Slots", name := "clea\x72", desc := "()V" } : Jvm.MethodName) "LibraryDesk") ∈ lw_tbl := lw_at lw_m6 183 rfl
theorem q2318 : (Jvm.Cond.selects "LibraryDesk$HashThing" ({ cls := "LibraryDesk$Maps", name := "kind", desc := "()I" } : Jvm.MethodName) ({ cls := "LibraryDesk$Thing", name := "kind", desc := "()I" } : Jvm.MethodName)) ∈ lw_all := lw_g (lw_at lw_m8 131 rfl) rfl
theorem q2326 : (Jvm.Cond.selects "LibraryDesk$HashThing" ({ cls := "LibraryDesk$Maps", name := "put", desc := "(IIZZ)J" } : Jvm.MethodName) ({ cls := "LibraryDesk$Maps", name := "put", desc := "(IIZZ)J" } : Jvm.MethodName)) ∈ lw_all := lw_g (lw_at lw_m8 139 rfl) rfl
theorem q2334 : (Jvm.Cond.selects "LibraryDesk$HashThing" ({ cls := "LibraryDesk$Maps", name := "find", desc := "(I)I" } : Jvm.MethodName) ({ cls := "LibraryDesk$HashThing", name := "find", desc := "(I)I" } : Jvm.MethodName)) ∈ lw_all := lw_g (lw_at lw_m8 147 rfl) rfl
theorem q2335 : (Jvm.Cond.instanceMethod ({ cls := "LibraryDesk$HashThing", name := "find", desc := "(I)I" } : Jvm.MethodName)) ∈ lw_all := lw_g (lw_at lw_m8 148 rfl) rfl
theorem q2336 : (Jvm.Cond.code ({ cls := "LibraryDesk$HashThing", name := "find", desc := "(I)I" } : Jvm.MethodName) prog_10_method_7_code (3 : Nat) (Option.some Jvm.ClassFile.FieldType.int)) ∈ lw_all := lw_g (lw_at lw_m8 149 rfl) rfl
theorem q2337 : (Jvm.Cond.methodLink "LibraryDesk$HashThing" (57 : Nat) ({ cls := "LibraryDesk$HashThing", name := "bin", desc := "(I)I" } : Jvm.MethodName)) ∈ lw_all := lw_g (lw_at lw_m8 150 rfl) rfl
theorem q2338 : (Jvm.Cond.privateMethod ({ cls := "LibraryDesk$HashThing", name := "bin", desc := "(I)I" } : Jvm.MethodName)) ∈ lw_tbl := lw_at lw_m8 151 rfl
theorem q2339 : (Jvm.Cond.instanceMethod ({ cls := "LibraryDesk$HashThing", name := "bin", desc := "(I)I" } : Jvm.MethodName)) ∈ lw_all := lw_g (lw_at lw_m8 152 rfl) rfl
theorem q2340 : (Jvm.Cond.code ({ cls := "LibraryDesk$HashThing", name := "bin", desc := "(I)I" } : Jvm.MethodName) prog_10_method_3_code (3 : Nat) (Option.some Jvm.ClassFile.FieldType.int)) ∈ lw_all := lw_g (lw_at lw_m8 153 rfl) rfl
theorem q2341 : (Jvm.Cond.methodLinkNest "LibraryDesk$HashThing" (49 : Nat) ({ cls := "LibraryDesk", name := "mod", desc := "(II)I" } : Jvm.MethodName) "LibraryDesk") ∈ lw_tbl := lw_at lw_m8 154 rfl
theorem q2342 : (Jvm.Cond.constant "LibraryDesk$HashThing" (53 : Nat) (-1640531527 : Int32)) ∈ lw_all := lw_g (lw_at lw_m8 155 rfl) rfl
theorem q2379 : (Jvm.Cond.selects "LibraryDesk$HashThing" ({ cls := "LibraryDesk$Maps", name := "found", desc := "(I)J" } : Jvm.MethodName) ({ cls := "LibraryDesk$Maps", name := "found", desc := "(I)J" } : Jvm.MethodName)) ∈ lw_all := lw_g (lw_at lw_m8 192 rfl) rfl
theorem q2388 : (Jvm.Cond.selects "LibraryDesk$HashThing" ({ cls := "LibraryDesk$Maps", name := "value", desc := "(I)I" } : Jvm.MethodName) ({ cls := "LibraryDesk$HashThing", name := "value", desc := "(I)I" } : Jvm.MethodName)) ∈ lw_all := lw_g (lw_at lw_m8 201 rfl) rfl
theorem q2389 : (Jvm.Cond.instanceMethod ({ cls := "LibraryDesk$HashThing", name := "value", desc := "(I)I" } : Jvm.MethodName)) ∈ lw_all := lw_g (lw_at lw_m8 202 rfl) rfl
theorem q2390 : (Jvm.Cond.code ({ cls := "LibraryDesk$HashThing", name := "value", desc := "(I)I" } : Jvm.MethodName) prog_10_method_13_code (2 : Nat) (Option.some Jvm.ClassFile.FieldType.int)) ∈ lw_all := lw_g (lw_at lw_m8 203 rfl) rfl
theorem q2405 : (Jvm.Cond.selects "LibraryDesk$HashThing" ({ cls := "LibraryDesk$Maps", name := "setValue", desc := "(II)V" } : Jvm.MethodName) ({ cls := "LibraryDesk$HashThing", name := "setValue", desc := "(II)V" } : Jvm.MethodName)) ∈ lw_all := lw_g (lw_at lw_m8 218 rfl) rfl
theorem q2406 : (Jvm.Cond.instanceMethod ({ cls := "LibraryDesk$HashThing", name := "setValue", desc := "(II)V" } : Jvm.MethodName)) ∈ lw_all := lw_g (lw_at lw_m8 219 rfl) rfl
theorem q2407 : (Jvm.Cond.code ({ cls := "LibraryDesk$HashThing", name := "setValue", desc := "(II)V" } : Jvm.MethodName) prog_10_method_14_code (3 : Nat) (Option.none : Option Jvm.ClassFile.FieldType)) ∈ lw_all := lw_g (lw_at lw_m8 220 rfl) rfl
theorem q2422 : (Jvm.Cond.selects "LibraryDesk$HashThing" ({ cls := "LibraryDesk$Maps", name := "use", desc := "(I)V" } : Jvm.MethodName) ({ cls := "LibraryDesk$Maps", name := "use", desc := "(I)V" } : Jvm.MethodName)) ∈ lw_all := lw_g (lw_at lw_m8 235 rfl) rfl
theorem q2440 : (Jvm.Cond.selects "LibraryDesk$HashThing" ({ cls := "LibraryDesk$Maps", name := "checkRoom", desc := "(I)V" } : Jvm.MethodName) ({ cls := "LibraryDesk$HashThing", name := "checkRoom", desc := "(I)V" } : Jvm.MethodName)) ∈ lw_all := lw_g (lw_at lw_m9 13 rfl) rfl
theorem q2441 : (Jvm.Cond.instanceMethod ({ cls := "LibraryDesk$HashThing", name := "checkRoom", desc := "(I)V" } : Jvm.MethodName)) ∈ lw_all := lw_g (lw_at lw_m9 14 rfl) rfl
theorem q2442 : (Jvm.Cond.code ({ cls := "LibraryDesk$HashThing", name := "checkRoom", desc := "(I)V" } : Jvm.MethodName) prog_10_method_15_code (2 : Nat) (Option.none : Option Jvm.ClassFile.FieldType)) ∈ lw_all := lw_g (lw_at lw_m9 15 rfl) rfl
theorem q2443 : (Jvm.Cond.methodLinkNest "LibraryDesk$HashThing" (77 : Nat) ({ cls := "LibraryDesk", name := "state", desc := "(Z)V" } : Jvm.MethodName) "LibraryDesk") ∈ lw_tbl := lw_at lw_m9 16 rfl
theorem q2461 : (Jvm.Cond.selects "LibraryDesk$HashThing" ({ cls := "LibraryDesk$Maps", name := "add", desc := "(II)V" } : Jvm.MethodName) ({ cls := "LibraryDesk$HashThing", name := "add", desc := "(II)V" } : Jvm.MethodName)) ∈ lw_all := lw_g (lw_at lw_m9 34 rfl) rfl
theorem q2462 : (Jvm.Cond.instanceMethod ({ cls := "LibraryDesk$HashThing", name := "add", desc := "(II)V" } : Jvm.MethodName)) ∈ lw_all := lw_g (lw_at lw_m9 35 rfl) rfl
theorem q2463 : (Jvm.Cond.code ({ cls := "LibraryDesk$HashThing", name := "add", desc := "(II)V" } : Jvm.MethodName) prog_10_method_17_code (5 : Nat) (Option.none : Option Jvm.ClassFile.FieldType)) ∈ lw_all := lw_g (lw_at lw_m9 36 rfl) rfl
theorem q2464 : (Jvm.Cond.methodLink "LibraryDesk$HashThing" (81 : Nat) ({ cls := "LibraryDesk$HashThing", name := "empty", desc := "(II)V" } : Jvm.MethodName)) ∈ lw_all := lw_g (lw_at lw_m9 37 rfl) rfl
theorem q2465 : (Jvm.Cond.privateMethod ({ cls := "LibraryDesk$HashThing", name := "empty", desc := "(II)V" } : Jvm.MethodName)) ∈ lw_tbl := lw_at lw_m9 38 rfl
theorem q2466 : (Jvm.Cond.instanceMethod ({ cls := "LibraryDesk$HashThing", name := "empty", desc := "(II)V" } : Jvm.MethodName)) ∈ lw_all := lw_g (lw_at lw_m9 39 rfl) rfl
theorem q2467 : (Jvm.Cond.code ({ cls := "LibraryDesk$HashThing", name := "empty", desc := "(II)V" } : Jvm.MethodName) prog_10_method_6_code (4 : Nat) (Option.none : Option Jvm.ClassFile.FieldType)) ∈ lw_all := lw_g (lw_at lw_m9 40 rfl) rfl
theorem q2468 : (Jvm.Cond.methodLinkNest "LibraryDesk$HashThing" (85 : Nat) ({ cls := "LibraryDesk$Slots", name := "take", desc := "(II)I" } : Jvm.MethodName) "LibraryDesk") ∈ lw_tbl := lw_at lw_m9 41 rfl
theorem q2472 : (Jvm.Cond.methodLink "LibraryDesk$HashThing" (88 : Nat) ({ cls := "LibraryDesk$HashThing", name := "append", desc := "(II)V" } : Jvm.MethodName)) ∈ lw_all := lw_g (lw_at lw_m9 45 rfl) rfl
theorem q2473 : (Jvm.Cond.privateMethod ({ cls := "LibraryDesk$HashThing", name := "append", desc := "(II)V" } : Jvm.MethodName)) ∈ lw_tbl := lw_at lw_m9 46 rfl
theorem q2474 : (Jvm.Cond.instanceMethod ({ cls := "LibraryDesk$HashThing", name := "append", desc := "(II)V" } : Jvm.MethodName)) ∈ lw_all := lw_g (lw_at lw_m9 47 rfl) rfl
theorem q2475 : (Jvm.Cond.code ({ cls := "LibraryDesk$HashThing", name := "append", desc := "(II)V" } : Jvm.MethodName) prog_10_method_16_code (3 : Nat) (Option.none : Option Jvm.ClassFile.FieldType)) ∈ lw_all := lw_g (lw_at lw_m9 48 rfl) rfl
theorem q2476 : (Jvm.Cond.methodLink "LibraryDesk$HashThing" (91 : Nat) ({ cls := "LibraryDesk$HashThing", name := "twice", desc := "()V" } : Jvm.MethodName)) ∈ lw_all := lw_g (lw_at lw_m9 49 rfl) rfl
theorem q2477 : (Jvm.Cond.privateMethod ({ cls := "LibraryDesk$HashThing", name := "twice", desc := "()V" } : Jvm.MethodName)) ∈ lw_tbl := lw_at lw_m9 50 rfl
theorem q2478 : (Jvm.Cond.instanceMethod ({ cls := "LibraryDesk$HashThing", name := "twice", desc := "()V" } : Jvm.MethodName)) ∈ lw_all := lw_g (lw_at lw_m9 51 rfl) rfl
theorem q2479 : (Jvm.Cond.code ({ cls := "LibraryDesk$HashThing", name := "twice", desc := "()V" } : Jvm.MethodName) prog_10_method_18_code (6 : Nat) (Option.none : Option Jvm.ClassFile.FieldType)) ∈ lw_all := lw_g (lw_at lw_m9 52 rfl) rfl
theorem q2520 : (Jvm.Cond.selects "LibraryDesk$HashThing" ({ cls := "LibraryDesk$Maps", name := "get", desc := "(I)J" } : Jvm.MethodName) ({ cls := "LibraryDesk$Maps", name := "get", desc := "(I)J" } : Jvm.MethodName)) ∈ lw_all := lw_g (lw_at lw_m9 93 rfl) rfl
theorem q2528 : (Jvm.Cond.selects "LibraryDesk$HashThing" ({ cls := "LibraryDesk$Maps", name := "drop", desc := "(I)J" } : Jvm.MethodName) ({ cls := "LibraryDesk$Maps", name := "drop", desc := "(I)J" } : Jvm.MethodName)) ∈ lw_all := lw_g (lw_at lw_m9 101 rfl) rfl
theorem q2536 : (Jvm.Cond.selects "LibraryDesk$HashThing" ({ cls := "LibraryDesk$Maps", name := "remove", desc := "(I)V" } : Jvm.MethodName) ({ cls := "LibraryDesk$HashThing", name := "remove", desc := "(I)V" } : Jvm.MethodName)) ∈ lw_all := lw_g (lw_at lw_m9 109 rfl) rfl
theorem q2537 : (Jvm.Cond.instanceMethod ({ cls := "LibraryDesk$HashThing", name := "remove", desc := "(I)V" } : Jvm.MethodName)) ∈ lw_all := lw_g (lw_at lw_m9 110 rfl) rfl
theorem q2538 : (Jvm.Cond.code ({ cls := "LibraryDesk$HashThing", name := "remove", desc := "(I)V" } : Jvm.MethodName) prog_10_method_19_code (5 : Nat) (Option.none : Option Jvm.ClassFile.FieldType)) ∈ lw_all := lw_g (lw_at lw_m9 111 rfl) rfl
theorem q2539 : (Jvm.Cond.methodLinkNest "LibraryDesk$HashThing" (94 : Nat) ({ cls := "LibraryDesk$Slots", name := "give", desc := "(I)V" } : Jvm.MethodName) "LibraryDesk") ∈ lw_tbl := lw_at lw_m9 112 rfl
theorem q2566 : (Jvm.Cond.selects "LibraryDesk$HashThing" ({ cls := "LibraryDesk$Maps", name := "size", desc := "()I" } : Jvm.MethodName) ({ cls := "LibraryDesk$HashThing", name := "size", desc := "()I" } : Jvm.MethodName)) ∈ lw_all := lw_g (lw_at lw_m9 139 rfl) rfl
theorem q2567 : (Jvm.Cond.instanceMethod ({ cls := "LibraryDesk$HashThing", name := "size", desc := "()I" } : Jvm.MethodName)) ∈ lw_all := lw_g (lw_at lw_m9 140 rfl) rfl
theorem q2568 : (Jvm.Cond.code ({ cls := "LibraryDesk$HashThing", name := "size", desc := "()I" } : Jvm.MethodName) prog_10_method_4_code (1 : Nat) (Option.some Jvm.ClassFile.FieldType.int)) ∈ lw_all := lw_g (lw_at lw_m9 141 rfl) rfl
theorem q2628 : (Jvm.Cond.selects "LibraryDesk$HashThing" ({ cls := "LibraryDesk$Maps", name := "clea\x72", desc := "()V" } : Jvm.MethodName) ({ cls := "LibraryDesk$HashThing", name := "clea\x72", desc := "()V" } : Jvm.MethodName)) ∈ lw_all := lw_g (lw_at lw_m9 201 rfl) rfl
theorem q2629 : (Jvm.Cond.instanceMethod ({ cls := "LibraryDesk$HashThing", name := "clea\x72", desc := "()V" } : Jvm.MethodName)) ∈ lw_all := lw_g (lw_at lw_m9 202 rfl) rfl
theorem q2630 : (Jvm.Cond.code ({ cls := "LibraryDesk$HashThing", name := "clea\x72", desc := "()V" } : Jvm.MethodName) prog_10_method_20_code (1 : Nat) (Option.none : Option Jvm.ClassFile.FieldType)) ∈ lw_all := lw_g (lw_at lw_m9 203 rfl) rfl
theorem q2643 : (Jvm.Cond.selects "LibraryDesk$HashThing" ({ cls := "LibraryDesk$Maps", name := "more", desc := "(II)J" } : Jvm.MethodName) ({ cls := "LibraryDesk$Maps", name := "more", desc := "(II)J" } : Jvm.MethodName)) ∈ lw_all := lw_g (lw_at lw_m9 216 rfl) rfl
theorem q2651 : (Jvm.Cond.selects "LibraryDesk$HashThing" ({ cls := "LibraryDesk$Maps", name := "countValue", desc := "(I)I" } : Jvm.MethodName) ({ cls := "LibraryDesk$Maps", name := "countValue", desc := "(I)I" } : Jvm.MethodName)) ∈ lw_all := lw_g (lw_at lw_m9 224 rfl) rfl
theorem q2659 : (Jvm.Cond.selects "LibraryDesk$HashThing" ({ cls := "LibraryDesk$Maps", name := "first", desc := "()I" } : Jvm.MethodName) ({ cls := "LibraryDesk$HashThing", name := "first", desc := "()I" } : Jvm.MethodName)) ∈ lw_all := lw_g (lw_at lw_m9 232 rfl) rfl
theorem q2660 : (Jvm.Cond.instanceMethod ({ cls := "LibraryDesk$HashThing", name := "first", desc := "()I" } : Jvm.MethodName)) ∈ lw_all := lw_g (lw_at lw_m9 233 rfl) rfl
theorem q2661 : (Jvm.Cond.code ({ cls := "LibraryDesk$HashThing", name := "first", desc := "()I" } : Jvm.MethodName) prog_10_method_9_code (1 : Nat) (Option.some Jvm.ClassFile.FieldType.int)) ∈ lw_all := lw_g (lw_at lw_m9 234 rfl) rfl
theorem q2662 : (Jvm.Cond.methodLink "LibraryDesk$HashThing" (67 : Nat) ({ cls := "LibraryDesk$HashThing", name := "from", desc := "(I)I" } : Jvm.MethodName)) ∈ lw_all := lw_g (lw_at lw_m9 235 rfl) rfl
theorem q2663 : (Jvm.Cond.privateMethod ({ cls := "LibraryDesk$HashThing", name := "from", desc := "(I)I" } : Jvm.MethodName)) ∈ lw_tbl := lw_at lw_m9 236 rfl
theorem q2664 : (Jvm.Cond.instanceMethod ({ cls := "LibraryDesk$HashThing", name := "from", desc := "(I)I" } : Jvm.MethodName)) ∈ lw_all := lw_g (lw_at lw_m9 237 rfl) rfl
theorem q2665 : (Jvm.Cond.code ({ cls := "LibraryDesk$HashThing", name := "from", desc := "(I)I" } : Jvm.MethodName) prog_10_method_8_code (3 : Nat) (Option.some Jvm.ClassFile.FieldType.int)) ∈ lw_all := lw_g (lw_at lw_m9 238 rfl) rfl
theorem q2674 : (Jvm.Cond.selects "LibraryDesk$HashThing" ({ cls := "LibraryDesk$Maps", name := "next", desc := "(I)I" } : Jvm.MethodName) ({ cls := "LibraryDesk$HashThing", name := "next", desc := "(I)I" } : Jvm.MethodName)) ∈ lw_all := lw_g (lw_at lw_m10 7 rfl) rfl
theorem q2675 : (Jvm.Cond.instanceMethod ({ cls := "LibraryDesk$HashThing", name := "next", desc := "(I)I" } : Jvm.MethodName)) ∈ lw_all := lw_g (lw_at lw_m10 8 rfl) rfl
theorem q2676 : (Jvm.Cond.code ({ cls := "LibraryDesk$HashThing", name := "next", desc := "(I)I" } : Jvm.MethodName) prog_10_method_11_code (2 : Nat) (Option.some Jvm.ClassFile.FieldType.int)) ∈ lw_all := lw_g (lw_at lw_m10 9 rfl) rfl
theorem q2685 : (Jvm.Cond.selects "LibraryDesk$HashThing" ({ cls := "LibraryDesk$Maps", name := "end", desc := "(ZZ)J" } : Jvm.MethodName) ({ cls := "LibraryDesk$Maps", name := "end", desc := "(ZZ)J" } : Jvm.MethodName)) ∈ lw_all := lw_g (lw_at lw_m10 18 rfl) rfl
theorem q2693 : (Jvm.Cond.selects "LibraryDesk$HashThing" ({ cls := "LibraryDesk$Maps", name := "last", desc := "()I" } : Jvm.MethodName) ({ cls := "LibraryDesk$HashThing", name := "last", desc := "()I" } : Jvm.MethodName)) ∈ lw_all := lw_g (lw_at lw_m10 26 rfl) rfl
theorem q2694 : (Jvm.Cond.instanceMethod ({ cls := "LibraryDesk$HashThing", name := "last", desc := "()I" } : Jvm.MethodName)) ∈ lw_all := lw_g (lw_at lw_m10 27 rfl) rfl
theorem q2695 : (Jvm.Cond.code ({ cls := "LibraryDesk$HashThing", name := "last", desc := "()I" } : Jvm.MethodName) prog_10_method_10_code (1 : Nat) (Option.some Jvm.ClassFile.FieldType.int)) ∈ lw_all := lw_g (lw_at lw_m10 28 rfl) rfl
theorem q2696 : (Jvm.Cond.classLink "LibraryDesk$HashThing" (70 : Nat) "java/lang/UnsupportedOperationException") ∈ lw_all := lw_g (lw_at lw_m10 29 rfl) rfl
theorem q2697 : (Jvm.Cond.methodLink "LibraryDesk$HashThing" (72 : Nat) ({ cls := "java/lang/UnsupportedOperationException", name := "<init>", desc := "()V" } : Jvm.MethodName)) ∈ lw_all := lw_g (lw_at lw_m10 30 rfl) rfl
theorem q2709 : (Jvm.Cond.selects "LibraryDesk$HashThing" ({ cls := "LibraryDesk$Maps", name := "key", desc := "(I)I" } : Jvm.MethodName) ({ cls := "LibraryDesk$HashThing", name := "key", desc := "(I)I" } : Jvm.MethodName)) ∈ lw_all := lw_g (lw_at lw_m10 42 rfl) rfl
theorem q2710 : (Jvm.Cond.instanceMethod ({ cls := "LibraryDesk$HashThing", name := "key", desc := "(I)I" } : Jvm.MethodName)) ∈ lw_all := lw_g (lw_at lw_m10 43 rfl) rfl
theorem q2711 : (Jvm.Cond.code ({ cls := "LibraryDesk$HashThing", name := "key", desc := "(I)I" } : Jvm.MethodName) prog_10_method_12_code (2 : Nat) (Option.some Jvm.ClassFile.FieldType.int)) ∈ lw_all := lw_g (lw_at lw_m10 44 rfl) rfl
theorem q2722 : (Jvm.Cond.selects "LibraryDesk$HashThing" ({ cls := "LibraryDesk$Maps", name := "hash", desc := "()I" } : Jvm.MethodName) ({ cls := "LibraryDesk$Maps", name := "hash", desc := "()I" } : Jvm.MethodName)) ∈ lw_all := lw_g (lw_at lw_m10 55 rfl) rfl
theorem q2730 : (Jvm.Cond.selects "LibraryDesk$HashThing" ({ cls := "LibraryDesk$Maps", name := "same", desc := "(LLibraryDesk$Maps;)I" } : Jvm.MethodName) ({ cls := "LibraryDesk$Maps", name := "same", desc := "(LLibraryDesk$Maps;)I" } : Jvm.MethodName)) ∈ lw_all := lw_g (lw_at lw_m10 63 rfl) rfl
theorem q2765 : (Jvm.Cond.privateMethod ({ cls := "LibraryDesk$HashThing", name := "bushyBins", desc := "()I" } : Jvm.MethodName)) ∈ lw_tbl := lw_at lw_m10 98 rfl
theorem q2766 : (Jvm.Cond.instanceMethod ({ cls := "LibraryDesk$HashThing", name := "bushyBins", desc := "()I" } : Jvm.MethodName)) ∈ lw_all := lw_g (lw_at lw_m10 99 rfl) rfl
theorem q2767 : (Jvm.Cond.code ({ cls := "LibraryDesk$HashThing", name := "bushyBins", desc := "()I" } : Jvm.MethodName) prog_10_method_21_code (3 : Nat) (Option.some Jvm.ClassFile.FieldType.int)) ∈ lw_all := lw_g (lw_at lw_m10 100 rfl) rfl
theorem q2843 : (Jvm.Cond.selects "LibraryDesk$HashThing" ({ cls := "LibraryDesk$Maps", name := "changes", desc := "()I" } : Jvm.MethodName) ({ cls := "LibraryDesk$HashThing", name := "changes", desc := "()I" } : Jvm.MethodName)) ∈ lw_all := lw_g (lw_at lw_m10 176 rfl) rfl
theorem q2844 : (Jvm.Cond.instanceMethod ({ cls := "LibraryDesk$HashThing", name := "changes", desc := "()I" } : Jvm.MethodName)) ∈ lw_all := lw_g (lw_at lw_m10 177 rfl) rfl
theorem q2845 : (Jvm.Cond.code ({ cls := "LibraryDesk$HashThing", name := "changes", desc := "()I" } : Jvm.MethodName) prog_10_method_5_code (1 : Nat) (Option.some Jvm.ClassFile.FieldType.int)) ∈ lw_all := lw_g (lw_at lw_m10 178 rfl) rfl
theorem q4115 : (Jvm.Cond.sameMethod "LibraryDesk$HashThing" "LibraryDesk$Maps" "more" "(II)J") ∈ lw_all := lw_g (lw_at lw_m16 8 rfl) rfl
theorem q4117 : (Jvm.Cond.selects "LibraryDesk$HashThing" ({ cls := "LibraryDesk$HashThing", name := "more", desc := "(II)J" } : Jvm.MethodName) ({ cls := "LibraryDesk$Maps", name := "more", desc := "(II)J" } : Jvm.MethodName)) ∈ lw_all := lw_g (lw_at lw_m16 10 rfl) rfl
theorem q6085 : (Jvm.Cond.selects "LibraryDesk$HashThing" ({ cls := "LibraryDesk$Thing", name := "kind", desc := "()I" } : Jvm.MethodName) ({ cls := "LibraryDesk$Thing", name := "kind", desc := "()I" } : Jvm.MethodName)) ∈ lw_all := lw_g (lw_at lw_m24 58 rfl) rfl
theorem q6098 : (Jvm.Cond.selects "LibraryDesk$HashThing" ({ cls := "LibraryDesk$HashThing", name := "find", desc := "(I)I" } : Jvm.MethodName) ({ cls := "LibraryDesk$HashThing", name := "find", desc := "(I)I" } : Jvm.MethodName)) ∈ lw_all := lw_g (lw_at lw_m24 71 rfl) rfl
theorem q6099 : (Jvm.Cond.selects "LibraryDesk$HashThing" ({ cls := "LibraryDesk$HashThing", name := "size", desc := "()I" } : Jvm.MethodName) ({ cls := "LibraryDesk$HashThing", name := "size", desc := "()I" } : Jvm.MethodName)) ∈ lw_all := lw_g (lw_at lw_m24 72 rfl) rfl
theorem q6103 : (Jvm.Cond.castable "LibraryDesk$HashThing" "LibraryDesk$Maps") ∈ lw_tbl := lw_at lw_m24 76 rfl
theorem q6129 : (Jvm.Cond.castable "LibraryDesk$HashThing" "java/lang/Object") ∈ lw_tbl := lw_at lw_m24 102 rfl
theorem q6155 : (Jvm.Cond.castable "LibraryDesk$HashThing" "LibraryDesk$Thing") ∈ lw_tbl := lw_at lw_m24 128 rfl
theorem in_X21 : ∀ w ∈ wsX210, w ∈ lw_all := lw_in wsX210 [1505, 1506, 1487, 1489, 1491, 1493, 1495, 1497, 1499, 1501, 1503] (by decide +kernel) (by decide +kernel)

/-! LibraryDesk$Slots -/
set_option maxRecDepth 100000
def RX22 : String := "LibraryDesk$Slots"
def TX22 : u_T := fun k => match k with
  | 0 => ("LibraryDesk$Slots", "key", "[I", true)
  | 1 => ("LibraryDesk$Slots", "value", "[I", true)
  | 2 => ("LibraryDesk$Slots", "next", "[I", true)
  | 3 => ("LibraryDesk$Slots", "free", "I", false)
  | 4 => ("LibraryDesk$Slots", "used", "I", false)
  | _ => ("LibraryDesk$Slots", "size", "I", false)
def tyX22 : Nat → FieldType := fun k => match k with
  | 0 => .array .int
  | 1 => .array .int
  | 2 => .array .int
  | 3 => .int
  | 4 => .int
  | _ => .int
abbrev wsX220 : List Cond := u_ws RX22 TX22 6
theorem nmX22 : ∀ a, a < 6 → ∀ b, b < 6 → a ≠ b → (TX22 a).2.1 ≠ (TX22 b).2.1 := by decide +kernel
theorem tyX22_ok : ∀ k, k < 6 → parseFieldDescriptor (TX22 k).2.2.1 = some (tyX22 k) := by decide +kernel
abbrev cX22_init : ByteArray := prog_28_method_1_code
def yX22_init : MethodName := ⟨RX22, "<init>", "(I)V"⟩
def dkwX22_init_1 : List UInt8 := [181, 0, 16, 177]
abbrev dktX22_init_1 : List UInt8 := dkwX22_init_1 ++ []
def dkwX22_init_0 : List UInt8 := [42, 183, 0, 1, 42, 27, 188, 10, 181, 0, 7, 42, 27, 188, 10, 181, 0, 13, 42, 27, 188, 10]
abbrev dktX22_init_0 : List UInt8 := dkwX22_init_0 ++ dktX22_init_1
theorem dksX22_init_0 : cX22_init.data.toList.drop 0 = dktX22_init_0 := by decide +kernel
theorem dksX22_init_1 : cX22_init.data.toList.drop 22 = dktX22_init_1 := dk_seg dksX22_init_0 22 rfl rfl
theorem dX22_init_0 : decode cX22_init 0 = .ok (.aload_n 0, 1) := dk_42 (dk_at dksX22_init_0 0 rfl rfl)
theorem dX22_init_1 : decode cX22_init 1 = .ok (.invokespecial 1, 3) := dk_183 0 1 (dk_at dksX22_init_0 1 rfl rfl)
theorem dX22_init_4 : decode cX22_init 4 = .ok (.aload_n 0, 1) := dk_42 (dk_at dksX22_init_0 4 rfl rfl)
theorem dX22_init_5 : decode cX22_init 5 = .ok (.iload_n 1, 1) := dk_27 (dk_at dksX22_init_0 5 rfl rfl)
theorem dX22_init_6 : decode cX22_init 6 = .ok (.newarray .int, 2) := dk_188_10 (dk_at dksX22_init_0 6 rfl rfl)
theorem dX22_init_8 : decode cX22_init 8 = .ok (.putfield 7, 3) := dk_181 0 7 (dk_at dksX22_init_0 8 rfl rfl)
theorem dX22_init_11 : decode cX22_init 11 = .ok (.aload_n 0, 1) := dk_42 (dk_at dksX22_init_0 11 rfl rfl)
theorem dX22_init_12 : decode cX22_init 12 = .ok (.iload_n 1, 1) := dk_27 (dk_at dksX22_init_0 12 rfl rfl)
theorem dX22_init_13 : decode cX22_init 13 = .ok (.newarray .int, 2) := dk_188_10 (dk_at dksX22_init_0 13 rfl rfl)
theorem dX22_init_15 : decode cX22_init 15 = .ok (.putfield 13, 3) := dk_181 0 13 (dk_at dksX22_init_0 15 rfl rfl)
theorem dX22_init_18 : decode cX22_init 18 = .ok (.aload_n 0, 1) := dk_42 (dk_at dksX22_init_0 18 rfl rfl)
theorem dX22_init_19 : decode cX22_init 19 = .ok (.iload_n 1, 1) := dk_27 (dk_at dksX22_init_0 19 rfl rfl)
theorem dX22_init_20 : decode cX22_init 20 = .ok (.newarray .int, 2) := dk_188_10 (dk_at dksX22_init_0 20 rfl rfl)
theorem dX22_init_22 : decode cX22_init 22 = .ok (.putfield 16, 3) := dk_181 0 16 (dk_at dksX22_init_1 0 rfl rfl)
theorem dX22_init_25 : decode cX22_init 25 = .ok (.return_, 1) := dk_177 (dk_at dksX22_init_1 3 rfl rfl)
abbrev cX22_clear : ByteArray := prog_28_method_2_code
def yX22_clear : MethodName := ⟨RX22, "clea\x72", "()V"⟩
def dkwX22_clear_0 : List UInt8 := [42, 2, 181, 0, 19, 42, 3, 181, 0, 23, 42, 3, 181, 0, 26, 177]
abbrev dktX22_clear_0 : List UInt8 := dkwX22_clear_0 ++ []
theorem dksX22_clear_0 : cX22_clear.data.toList.drop 0 = dktX22_clear_0 := by decide +kernel
theorem dX22_clear_0 : decode cX22_clear 0 = .ok (.aload_n 0, 1) := dk_42 (dk_at dksX22_clear_0 0 rfl rfl)
theorem dX22_clear_1 : decode cX22_clear 1 = .ok (.iconst (-1), 1) := dk_2 (dk_at dksX22_clear_0 1 rfl rfl)
theorem dX22_clear_2 : decode cX22_clear 2 = .ok (.putfield 19, 3) := dk_181 0 19 (dk_at dksX22_clear_0 2 rfl rfl)
theorem dX22_clear_5 : decode cX22_clear 5 = .ok (.aload_n 0, 1) := dk_42 (dk_at dksX22_clear_0 5 rfl rfl)
theorem dX22_clear_6 : decode cX22_clear 6 = .ok (.iconst 0, 1) := dk_3 (dk_at dksX22_clear_0 6 rfl rfl)
theorem dX22_clear_7 : decode cX22_clear 7 = .ok (.putfield 23, 3) := dk_181 0 23 (dk_at dksX22_clear_0 7 rfl rfl)
theorem dX22_clear_10 : decode cX22_clear 10 = .ok (.aload_n 0, 1) := dk_42 (dk_at dksX22_clear_0 10 rfl rfl)
theorem dX22_clear_11 : decode cX22_clear 11 = .ok (.iconst 0, 1) := dk_3 (dk_at dksX22_clear_0 11 rfl rfl)
theorem dX22_clear_12 : decode cX22_clear 12 = .ok (.putfield 26, 3) := dk_181 0 26 (dk_at dksX22_clear_0 12 rfl rfl)
theorem dX22_clear_15 : decode cX22_clear 15 = .ok (.return_, 1) := dk_177 (dk_at dksX22_clear_0 15 rfl rfl)
abbrev cX22_take : ByteArray := prog_28_method_3_code
def yX22_take : MethodName := ⟨RX22, "take", "(II)I"⟩
def dkwX22_take_3 : List UInt8 := [172]
abbrev dktX22_take_3 : List UInt8 := dkwX22_take_3 ++ []
def dkwX22_take_2 : List UInt8 := [180, 0, 13, 29, 28, 79, 42, 180, 0, 16, 29, 2, 79, 42, 89, 180, 0, 26, 4, 96, 181, 0, 26, 29]
abbrev dktX22_take_2 : List UInt8 := dkwX22_take_2 ++ dktX22_take_3
def dkwX22_take_1 : List UInt8 := [180, 0, 23, 62, 42, 89, 180, 0, 23, 4, 96, 181, 0, 23, 42, 180, 0, 7, 29, 27, 79, 42]
abbrev dktX22_take_1 : List UInt8 := dkwX22_take_1 ++ dktX22_take_2
def dkwX22_take_0 : List UInt8 := [42, 180, 0, 19, 62, 29, 155, 0, 16, 42, 42, 180, 0, 16, 29, 46, 181, 0, 19, 167, 0, 18, 42]
abbrev dktX22_take_0 : List UInt8 := dkwX22_take_0 ++ dktX22_take_1
theorem dksX22_take_0 : cX22_take.data.toList.drop 0 = dktX22_take_0 := by decide +kernel
theorem dksX22_take_1 : cX22_take.data.toList.drop 23 = dktX22_take_1 := dk_seg dksX22_take_0 23 rfl rfl
theorem dksX22_take_2 : cX22_take.data.toList.drop 45 = dktX22_take_2 := dk_seg dksX22_take_1 22 rfl rfl
theorem dksX22_take_3 : cX22_take.data.toList.drop 69 = dktX22_take_3 := dk_seg dksX22_take_2 24 rfl rfl
theorem dX22_take_0 : decode cX22_take 0 = .ok (.aload_n 0, 1) := dk_42 (dk_at dksX22_take_0 0 rfl rfl)
theorem dX22_take_1 : decode cX22_take 1 = .ok (.getfield 19, 3) := dk_180 0 19 (dk_at dksX22_take_0 1 rfl rfl)
theorem dX22_take_4 : decode cX22_take 4 = .ok (.istore_n 3, 1) := dk_62 (dk_at dksX22_take_0 4 rfl rfl)
theorem dX22_take_5 : decode cX22_take 5 = .ok (.iload_n 3, 1) := dk_29 (dk_at dksX22_take_0 5 rfl rfl)
theorem dX22_take_6 : decode cX22_take 6 = .ok (.ifCond .lt 16, 3) := dk_155 0 16 (dk_at dksX22_take_0 6 rfl rfl)
theorem dX22_take_9 : decode cX22_take 9 = .ok (.aload_n 0, 1) := dk_42 (dk_at dksX22_take_0 9 rfl rfl)
theorem dX22_take_10 : decode cX22_take 10 = .ok (.aload_n 0, 1) := dk_42 (dk_at dksX22_take_0 10 rfl rfl)
theorem dX22_take_11 : decode cX22_take 11 = .ok (.getfield 16, 3) := dk_180 0 16 (dk_at dksX22_take_0 11 rfl rfl)
theorem dX22_take_14 : decode cX22_take 14 = .ok (.iload_n 3, 1) := dk_29 (dk_at dksX22_take_0 14 rfl rfl)
theorem dX22_take_15 : decode cX22_take 15 = .ok (.iaload, 1) := dk_46 (dk_at dksX22_take_0 15 rfl rfl)
theorem dX22_take_16 : decode cX22_take 16 = .ok (.putfield 19, 3) := dk_181 0 19 (dk_at dksX22_take_0 16 rfl rfl)
theorem dX22_take_19 : decode cX22_take 19 = .ok (.goto 18, 3) := dk_167 0 18 (dk_at dksX22_take_0 19 rfl rfl)
theorem dX22_take_22 : decode cX22_take 22 = .ok (.aload_n 0, 1) := dk_42 (dk_at dksX22_take_0 22 rfl rfl)
theorem dX22_take_23 : decode cX22_take 23 = .ok (.getfield 23, 3) := dk_180 0 23 (dk_at dksX22_take_1 0 rfl rfl)
theorem dX22_take_26 : decode cX22_take 26 = .ok (.istore_n 3, 1) := dk_62 (dk_at dksX22_take_1 3 rfl rfl)
theorem dX22_take_27 : decode cX22_take 27 = .ok (.aload_n 0, 1) := dk_42 (dk_at dksX22_take_1 4 rfl rfl)
theorem dX22_take_28 : decode cX22_take 28 = .ok (.dup, 1) := dk_89 (dk_at dksX22_take_1 5 rfl rfl)
theorem dX22_take_29 : decode cX22_take 29 = .ok (.getfield 23, 3) := dk_180 0 23 (dk_at dksX22_take_1 6 rfl rfl)
theorem dX22_take_32 : decode cX22_take 32 = .ok (.iconst 1, 1) := dk_4 (dk_at dksX22_take_1 9 rfl rfl)
theorem dX22_take_33 : decode cX22_take 33 = .ok (.iadd, 1) := dk_96 (dk_at dksX22_take_1 10 rfl rfl)
theorem dX22_take_34 : decode cX22_take 34 = .ok (.putfield 23, 3) := dk_181 0 23 (dk_at dksX22_take_1 11 rfl rfl)
theorem dX22_take_37 : decode cX22_take 37 = .ok (.aload_n 0, 1) := dk_42 (dk_at dksX22_take_1 14 rfl rfl)
theorem dX22_take_38 : decode cX22_take 38 = .ok (.getfield 7, 3) := dk_180 0 7 (dk_at dksX22_take_1 15 rfl rfl)
theorem dX22_take_41 : decode cX22_take 41 = .ok (.iload_n 3, 1) := dk_29 (dk_at dksX22_take_1 18 rfl rfl)
theorem dX22_take_42 : decode cX22_take 42 = .ok (.iload_n 1, 1) := dk_27 (dk_at dksX22_take_1 19 rfl rfl)
theorem dX22_take_43 : decode cX22_take 43 = .ok (.iastore, 1) := dk_79 (dk_at dksX22_take_1 20 rfl rfl)
theorem dX22_take_44 : decode cX22_take 44 = .ok (.aload_n 0, 1) := dk_42 (dk_at dksX22_take_1 21 rfl rfl)
theorem dX22_take_45 : decode cX22_take 45 = .ok (.getfield 13, 3) := dk_180 0 13 (dk_at dksX22_take_2 0 rfl rfl)
theorem dX22_take_48 : decode cX22_take 48 = .ok (.iload_n 3, 1) := dk_29 (dk_at dksX22_take_2 3 rfl rfl)
theorem dX22_take_49 : decode cX22_take 49 = .ok (.iload_n 2, 1) := dk_28 (dk_at dksX22_take_2 4 rfl rfl)
theorem dX22_take_50 : decode cX22_take 50 = .ok (.iastore, 1) := dk_79 (dk_at dksX22_take_2 5 rfl rfl)
theorem dX22_take_51 : decode cX22_take 51 = .ok (.aload_n 0, 1) := dk_42 (dk_at dksX22_take_2 6 rfl rfl)
theorem dX22_take_52 : decode cX22_take 52 = .ok (.getfield 16, 3) := dk_180 0 16 (dk_at dksX22_take_2 7 rfl rfl)
theorem dX22_take_55 : decode cX22_take 55 = .ok (.iload_n 3, 1) := dk_29 (dk_at dksX22_take_2 10 rfl rfl)
theorem dX22_take_56 : decode cX22_take 56 = .ok (.iconst (-1), 1) := dk_2 (dk_at dksX22_take_2 11 rfl rfl)
theorem dX22_take_57 : decode cX22_take 57 = .ok (.iastore, 1) := dk_79 (dk_at dksX22_take_2 12 rfl rfl)
theorem dX22_take_58 : decode cX22_take 58 = .ok (.aload_n 0, 1) := dk_42 (dk_at dksX22_take_2 13 rfl rfl)
theorem dX22_take_59 : decode cX22_take 59 = .ok (.dup, 1) := dk_89 (dk_at dksX22_take_2 14 rfl rfl)
theorem dX22_take_60 : decode cX22_take 60 = .ok (.getfield 26, 3) := dk_180 0 26 (dk_at dksX22_take_2 15 rfl rfl)
theorem dX22_take_63 : decode cX22_take 63 = .ok (.iconst 1, 1) := dk_4 (dk_at dksX22_take_2 18 rfl rfl)
theorem dX22_take_64 : decode cX22_take 64 = .ok (.iadd, 1) := dk_96 (dk_at dksX22_take_2 19 rfl rfl)
theorem dX22_take_65 : decode cX22_take 65 = .ok (.putfield 26, 3) := dk_181 0 26 (dk_at dksX22_take_2 20 rfl rfl)
theorem dX22_take_68 : decode cX22_take 68 = .ok (.iload_n 3, 1) := dk_29 (dk_at dksX22_take_2 23 rfl rfl)
theorem dX22_take_69 : decode cX22_take 69 = .ok (.ireturn, 1) := dk_172 (dk_at dksX22_take_3 0 rfl rfl)
abbrev cX22_give : ByteArray := prog_28_method_4_code
def yX22_give : MethodName := ⟨RX22, "give", "(I)V"⟩
def dkwX22_give_1 : List UInt8 := [181, 0, 26, 177]
abbrev dktX22_give_1 : List UInt8 := dkwX22_give_1 ++ []
def dkwX22_give_0 : List UInt8 := [42, 180, 0, 16, 27, 42, 180, 0, 19, 79, 42, 27, 181, 0, 19, 42, 89, 180, 0, 26, 4, 100]
abbrev dktX22_give_0 : List UInt8 := dkwX22_give_0 ++ dktX22_give_1
theorem dksX22_give_0 : cX22_give.data.toList.drop 0 = dktX22_give_0 := by decide +kernel
theorem dksX22_give_1 : cX22_give.data.toList.drop 22 = dktX22_give_1 := dk_seg dksX22_give_0 22 rfl rfl
theorem dX22_give_0 : decode cX22_give 0 = .ok (.aload_n 0, 1) := dk_42 (dk_at dksX22_give_0 0 rfl rfl)
theorem dX22_give_1 : decode cX22_give 1 = .ok (.getfield 16, 3) := dk_180 0 16 (dk_at dksX22_give_0 1 rfl rfl)
theorem dX22_give_4 : decode cX22_give 4 = .ok (.iload_n 1, 1) := dk_27 (dk_at dksX22_give_0 4 rfl rfl)
theorem dX22_give_5 : decode cX22_give 5 = .ok (.aload_n 0, 1) := dk_42 (dk_at dksX22_give_0 5 rfl rfl)
theorem dX22_give_6 : decode cX22_give 6 = .ok (.getfield 19, 3) := dk_180 0 19 (dk_at dksX22_give_0 6 rfl rfl)
theorem dX22_give_9 : decode cX22_give 9 = .ok (.iastore, 1) := dk_79 (dk_at dksX22_give_0 9 rfl rfl)
theorem dX22_give_10 : decode cX22_give 10 = .ok (.aload_n 0, 1) := dk_42 (dk_at dksX22_give_0 10 rfl rfl)
theorem dX22_give_11 : decode cX22_give 11 = .ok (.iload_n 1, 1) := dk_27 (dk_at dksX22_give_0 11 rfl rfl)
theorem dX22_give_12 : decode cX22_give 12 = .ok (.putfield 19, 3) := dk_181 0 19 (dk_at dksX22_give_0 12 rfl rfl)
theorem dX22_give_15 : decode cX22_give 15 = .ok (.aload_n 0, 1) := dk_42 (dk_at dksX22_give_0 15 rfl rfl)
theorem dX22_give_16 : decode cX22_give 16 = .ok (.dup, 1) := dk_89 (dk_at dksX22_give_0 16 rfl rfl)
theorem dX22_give_17 : decode cX22_give 17 = .ok (.getfield 26, 3) := dk_180 0 26 (dk_at dksX22_give_0 17 rfl rfl)
theorem dX22_give_20 : decode cX22_give 20 = .ok (.iconst 1, 1) := dk_4 (dk_at dksX22_give_0 20 rfl rfl)
theorem dX22_give_21 : decode cX22_give 21 = .ok (.isub, 1) := dk_100 (dk_at dksX22_give_0 21 rfl rfl)
theorem dX22_give_22 : decode cX22_give 22 = .ok (.putfield 26, 3) := dk_181 0 26 (dk_at dksX22_give_1 0 rfl rfl)
theorem dX22_give_25 : decode cX22_give 25 = .ok (.return_, 1) := dk_177 (dk_at dksX22_give_1 3 rfl rfl)
theorem q538 : (Jvm.Cond.initialized "LibraryDesk$Slots") ∈ lw_all := lw_g (lw_at lw_m1 31 rfl) rfl
theorem q1442 : (Jvm.Cond.instantiable "LibraryDesk$Slots" (6 : Nat)) ∈ lw_all := lw_g (lw_at lw_m4 215 rfl) rfl
theorem q1444 : (Jvm.Cond.instanceMethod ({ cls := "LibraryDesk$Slots", name := "<init>", desc := "(I)V" } : Jvm.MethodName)) ∈ lw_all := lw_g (lw_at lw_m4 217 rfl) rfl
theorem q1445 : (Jvm.Cond.code ({ cls := "LibraryDesk$Slots", name := "<init>", desc := "(I)V" } : Jvm.MethodName) prog_28_method_1_code (2 : Nat) (Option.none : Option Jvm.ClassFile.FieldType)) ∈ lw_all := lw_g (lw_at lw_m4 218 rfl) rfl
theorem q1446 : (Jvm.Cond.methodLink "LibraryDesk$Slots" (1 : Nat) ({ cls := "java/lang/Object", name := "<init>", desc := "()V" } : Jvm.MethodName)) ∈ lw_all := lw_g (lw_at lw_m4 219 rfl) rfl
theorem q1447 : (Jvm.Cond.fieldLink "LibraryDesk$Slots" (7 : Nat) "LibraryDesk$Slots" "key" "[I") ∈ lw_all := lw_g (lw_at lw_m4 220 rfl) rfl
theorem q1451 : (Jvm.Cond.fieldLink "LibraryDesk$Slots" (13 : Nat) "LibraryDesk$Slots" "value" "[I") ∈ lw_all := lw_g (lw_at lw_m4 224 rfl) rfl
theorem q1455 : (Jvm.Cond.fieldLink "LibraryDesk$Slots" (16 : Nat) "LibraryDesk$Slots" "next" "[I") ∈ lw_all := lw_g (lw_at lw_m4 228 rfl) rfl
theorem q1458 : (Jvm.Cond.fieldLink "LibraryDesk$Slots" (19 : Nat) "LibraryDesk$Slots" "free" "I") ∈ lw_all := lw_g (lw_at lw_m4 231 rfl) rfl
theorem q1459 : (Jvm.Cond.fieldLink "LibraryDesk$Slots" (23 : Nat) "LibraryDesk$Slots" "used" "I") ∈ lw_all := lw_g (lw_at lw_m4 232 rfl) rfl
theorem q1460 : (Jvm.Cond.fieldLink "LibraryDesk$Slots" (26 : Nat) "LibraryDesk$Slots" "size" "I") ∈ lw_all := lw_g (lw_at lw_m4 233 rfl) rfl
theorem q1464 : (Jvm.Cond.laysFinal "LibraryDesk$Slots" "LibraryDesk$Slots" "key" "[I") ∈ lw_all := lw_g (lw_at lw_m4 237 rfl) rfl
theorem q1465 : (Jvm.Cond.soleField "LibraryDesk$Slots" "key") ∈ lw_all := lw_g (lw_at lw_m4 238 rfl) rfl
theorem q1466 : (Jvm.Cond.laysFinal "LibraryDesk$Slots" "LibraryDesk$Slots" "value" "[I") ∈ lw_all := lw_g (lw_at lw_m4 239 rfl) rfl
theorem q1467 : (Jvm.Cond.soleField "LibraryDesk$Slots" "value") ∈ lw_all := lw_g (lw_at lw_m5 0 rfl) rfl
theorem q1468 : (Jvm.Cond.laysFinal "LibraryDesk$Slots" "LibraryDesk$Slots" "next" "[I") ∈ lw_all := lw_g (lw_at lw_m5 1 rfl) rfl
theorem q1469 : (Jvm.Cond.soleField "LibraryDesk$Slots" "next") ∈ lw_all := lw_g (lw_at lw_m5 2 rfl) rfl
theorem q1470 : (Jvm.Cond.lays "LibraryDesk$Slots" "LibraryDesk$Slots" "free" "I") ∈ lw_all := lw_g (lw_at lw_m5 3 rfl) rfl
theorem q1471 : (Jvm.Cond.soleField "LibraryDesk$Slots" "free") ∈ lw_all := lw_g (lw_at lw_m5 4 rfl) rfl
theorem q1472 : (Jvm.Cond.lays "LibraryDesk$Slots" "LibraryDesk$Slots" "used" "I") ∈ lw_all := lw_g (lw_at lw_m5 5 rfl) rfl
theorem q1473 : (Jvm.Cond.soleField "LibraryDesk$Slots" "used") ∈ lw_all := lw_g (lw_at lw_m5 6 rfl) rfl
theorem q1474 : (Jvm.Cond.lays "LibraryDesk$Slots" "LibraryDesk$Slots" "size" "I") ∈ lw_all := lw_g (lw_at lw_m5 7 rfl) rfl
theorem q1475 : (Jvm.Cond.soleField "LibraryDesk$Slots" "size") ∈ lw_all := lw_g (lw_at lw_m5 8 rfl) rfl
theorem q1476 : (Jvm.Cond.superclass "LibraryDesk$Slots" "java/lang/Object") ∈ lw_all := lw_g (lw_at lw_m5 9 rfl) rfl
theorem q1891 : (Jvm.Cond.privateMethod ({ cls := "LibraryDesk$Slots", name := "clea\x72", desc := "()V" } : Jvm.MethodName)) ∈ lw_tbl := lw_at lw_m6 184 rfl
theorem q1892 : (Jvm.Cond.instanceMethod ({ cls := "LibraryDesk$Slots", name := "clea\x72", desc := "()V" } : Jvm.MethodName)) ∈ lw_all := lw_g (lw_at lw_m6 185 rfl) rfl
theorem q1893 : (Jvm.Cond.code ({ cls := "LibraryDesk$Slots", name := "clea\x72", desc := "()V" } : Jvm.MethodName) prog_28_method_2_code (1 : Nat) (Option.none : Option Jvm.ClassFile.FieldType)) ∈ lw_all := lw_g (lw_at lw_m6 186 rfl) rfl
theorem q2469 : (Jvm.Cond.privateMethod ({ cls := "LibraryDesk$Slots", name := "take", desc := "(II)I" } : Jvm.MethodName)) ∈ lw_tbl := lw_at lw_m9 42 rfl
theorem q2470 : (Jvm.Cond.instanceMethod ({ cls := "LibraryDesk$Slots", name := "take", desc := "(II)I" } : Jvm.MethodName)) ∈ lw_all := lw_g (lw_at lw_m9 43 rfl) rfl
theorem q2471 : (Jvm.Cond.code ({ cls := "LibraryDesk$Slots", name := "take", desc := "(II)I" } : Jvm.MethodName) prog_28_method_3_code (4 : Nat) (Option.some Jvm.ClassFile.FieldType.int)) ∈ lw_all := lw_g (lw_at lw_m9 44 rfl) rfl
theorem q2489 : (Jvm.Cond.privateMethod ({ cls := "LibraryDesk$Slots", name := "give", desc := "(I)V" } : Jvm.MethodName)) ∈ lw_tbl := lw_at lw_m9 62 rfl
theorem q2490 : (Jvm.Cond.instanceMethod ({ cls := "LibraryDesk$Slots", name := "give", desc := "(I)V" } : Jvm.MethodName)) ∈ lw_all := lw_g (lw_at lw_m9 63 rfl) rfl
theorem q2491 : (Jvm.Cond.code ({ cls := "LibraryDesk$Slots", name := "give", desc := "(I)V" } : Jvm.MethodName) prog_28_method_4_code (2 : Nat) (Option.none : Option Jvm.ClassFile.FieldType)) ∈ lw_all := lw_g (lw_at lw_m9 64 rfl) rfl
theorem q6130 : (Jvm.Cond.castable "LibraryDesk$Slots" "java/lang/Object") ∈ lw_tbl := lw_at lw_m24 103 rfl
theorem in_X22 : ∀ w ∈ wsX220, w ∈ lw_all := lw_in wsX220 [1464, 1466, 1468, 1470, 1472, 1474] (by decide +kernel) (by decide +kernel)

/-! LibraryDesk$LinkedThing -/
set_option maxRecDepth 100000
def RX23 : String := "LibraryDesk$LinkedThing"
def TX23 : u_T := fun k => match k with
  | 0 => ("LibraryDesk$Thing", "kind", "I", true)
  | 1 => ("LibraryDesk$Thing", "used", "Z", false)
  | 2 => ("LibraryDesk$LinkedThing", "slots", "LLibraryDesk$Slots;", true)
  | 3 => ("LibraryDesk$LinkedThing", "heads", "[I", true)
  | 4 => ("LibraryDesk$LinkedThing", "before", "[I", true)
  | 5 => ("LibraryDesk$LinkedThing", "afte\x72", "[I", true)
  | 6 => ("LibraryDesk$LinkedThing", "first", "I", false)
  | 7 => ("LibraryDesk$LinkedThing", "last", "I", false)
  | 8 => ("LibraryDesk$LinkedThing", "limit", "I", false)
  | 9 => ("LibraryDesk$LinkedThing", "byUse", "Z", false)
  | _ => ("LibraryDesk$LinkedThing", "changes", "I", false)
def tyX23 : Nat → FieldType := fun k => match k with
  | 0 => .int
  | 1 => .boolean
  | 2 => .object "LibraryDesk$Slots"
  | 3 => .array .int
  | 4 => .array .int
  | 5 => .array .int
  | 6 => .int
  | 7 => .int
  | 8 => .int
  | 9 => .boolean
  | _ => .int
abbrev wsX230 : List Cond := u_ws RX23 TX23 11
theorem nmX23 : ∀ a, a < 11 → ∀ b, b < 11 → a ≠ b → (TX23 a).2.1 ≠ (TX23 b).2.1 := by decide +kernel
theorem tyX23_ok : ∀ k, k < 11 → parseFieldDescriptor (TX23 k).2.2.1 = some (tyX23 k) := by decide +kernel
abbrev cX23_init : ByteArray := prog_12_method_1_code
def yX23_init : MethodName := ⟨RX23, "<init>", "()V"⟩
def dkwX23_init_1 : List UInt8 := [188, 10, 181, 0, 18, 42, 17, 3, 233, 188, 10, 181, 0, 22, 42, 17, 3, 233, 188, 10, 181, 0, 25, 177]
abbrev dktX23_init_1 : List UInt8 := dkwX23_init_1 ++ []
def dkwX23_init_0 : List UInt8 := [42, 6, 183, 0, 3, 42, 187, 0, 9, 89, 17, 3, 233, 183, 0, 11, 181, 0, 12, 42, 17, 4, 0]
abbrev dktX23_init_0 : List UInt8 := dkwX23_init_0 ++ dktX23_init_1
theorem dksX23_init_0 : cX23_init.data.toList.drop 0 = dktX23_init_0 := by decide +kernel
theorem dksX23_init_1 : cX23_init.data.toList.drop 23 = dktX23_init_1 := dk_seg dksX23_init_0 23 rfl rfl
theorem dX23_init_0 : decode cX23_init 0 = .ok (.aload_n 0, 1) := dk_42 (dk_at dksX23_init_0 0 rfl rfl)
theorem dX23_init_1 : decode cX23_init 1 = .ok (.iconst 3, 1) := dk_6 (dk_at dksX23_init_0 1 rfl rfl)
theorem dX23_init_2 : decode cX23_init 2 = .ok (.invokespecial 3, 3) := dk_183 0 3 (dk_at dksX23_init_0 2 rfl rfl)
theorem dX23_init_5 : decode cX23_init 5 = .ok (.aload_n 0, 1) := dk_42 (dk_at dksX23_init_0 5 rfl rfl)
theorem dX23_init_6 : decode cX23_init 6 = .ok (.new 9, 3) := dk_187 0 9 (dk_at dksX23_init_0 6 rfl rfl)
theorem dX23_init_9 : decode cX23_init 9 = .ok (.dup, 1) := dk_89 (dk_at dksX23_init_0 9 rfl rfl)
theorem dX23_init_10 : decode cX23_init 10 = .ok (.sipush 1001, 3) := dk_17 3 233 (dk_at dksX23_init_0 10 rfl rfl)
theorem dX23_init_13 : decode cX23_init 13 = .ok (.invokespecial 11, 3) := dk_183 0 11 (dk_at dksX23_init_0 13 rfl rfl)
theorem dX23_init_16 : decode cX23_init 16 = .ok (.putfield 12, 3) := dk_181 0 12 (dk_at dksX23_init_0 16 rfl rfl)
theorem dX23_init_19 : decode cX23_init 19 = .ok (.aload_n 0, 1) := dk_42 (dk_at dksX23_init_0 19 rfl rfl)
theorem dX23_init_20 : decode cX23_init 20 = .ok (.sipush 1024, 3) := dk_17 4 0 (dk_at dksX23_init_0 20 rfl rfl)
theorem dX23_init_23 : decode cX23_init 23 = .ok (.newarray .int, 2) := dk_188_10 (dk_at dksX23_init_1 0 rfl rfl)
theorem dX23_init_25 : decode cX23_init 25 = .ok (.putfield 18, 3) := dk_181 0 18 (dk_at dksX23_init_1 2 rfl rfl)
theorem dX23_init_28 : decode cX23_init 28 = .ok (.aload_n 0, 1) := dk_42 (dk_at dksX23_init_1 5 rfl rfl)
theorem dX23_init_29 : decode cX23_init 29 = .ok (.sipush 1001, 3) := dk_17 3 233 (dk_at dksX23_init_1 6 rfl rfl)
theorem dX23_init_32 : decode cX23_init 32 = .ok (.newarray .int, 2) := dk_188_10 (dk_at dksX23_init_1 9 rfl rfl)
theorem dX23_init_34 : decode cX23_init 34 = .ok (.putfield 22, 3) := dk_181 0 22 (dk_at dksX23_init_1 11 rfl rfl)
theorem dX23_init_37 : decode cX23_init 37 = .ok (.aload_n 0, 1) := dk_42 (dk_at dksX23_init_1 14 rfl rfl)
theorem dX23_init_38 : decode cX23_init 38 = .ok (.sipush 1001, 3) := dk_17 3 233 (dk_at dksX23_init_1 15 rfl rfl)
theorem dX23_init_41 : decode cX23_init 41 = .ok (.newarray .int, 2) := dk_188_10 (dk_at dksX23_init_1 18 rfl rfl)
theorem dX23_init_43 : decode cX23_init 43 = .ok (.putfield 25, 3) := dk_181 0 25 (dk_at dksX23_init_1 20 rfl rfl)
theorem dX23_init_46 : decode cX23_init 46 = .ok (.return_, 1) := dk_177 (dk_at dksX23_init_1 23 rfl rfl)
abbrev cX23_begin : ByteArray := prog_12_method_2_code
def yX23_begin : MethodName := ⟨RX23, "begin", "(IZ)V"⟩
def dkwX23_begin_0 : List UInt8 := [42, 182, 0, 28, 42, 27, 181, 0, 32, 42, 28, 181, 0, 36, 42, 3, 181, 0, 40, 177]
abbrev dktX23_begin_0 : List UInt8 := dkwX23_begin_0 ++ []
theorem dksX23_begin_0 : cX23_begin.data.toList.drop 0 = dktX23_begin_0 := by decide +kernel
theorem dX23_begin_0 : decode cX23_begin 0 = .ok (.aload_n 0, 1) := dk_42 (dk_at dksX23_begin_0 0 rfl rfl)
theorem dX23_begin_1 : decode cX23_begin 1 = .ok (.invokevirtual 28, 3) := dk_182 0 28 (dk_at dksX23_begin_0 1 rfl rfl)
theorem dX23_begin_4 : decode cX23_begin 4 = .ok (.aload_n 0, 1) := dk_42 (dk_at dksX23_begin_0 4 rfl rfl)
theorem dX23_begin_5 : decode cX23_begin 5 = .ok (.iload_n 1, 1) := dk_27 (dk_at dksX23_begin_0 5 rfl rfl)
theorem dX23_begin_6 : decode cX23_begin 6 = .ok (.putfield 32, 3) := dk_181 0 32 (dk_at dksX23_begin_0 6 rfl rfl)
theorem dX23_begin_9 : decode cX23_begin 9 = .ok (.aload_n 0, 1) := dk_42 (dk_at dksX23_begin_0 9 rfl rfl)
theorem dX23_begin_10 : decode cX23_begin 10 = .ok (.iload_n 2, 1) := dk_28 (dk_at dksX23_begin_0 10 rfl rfl)
theorem dX23_begin_11 : decode cX23_begin 11 = .ok (.putfield 36, 3) := dk_181 0 36 (dk_at dksX23_begin_0 11 rfl rfl)
theorem dX23_begin_14 : decode cX23_begin 14 = .ok (.aload_n 0, 1) := dk_42 (dk_at dksX23_begin_0 14 rfl rfl)
theorem dX23_begin_15 : decode cX23_begin 15 = .ok (.iconst 0, 1) := dk_3 (dk_at dksX23_begin_0 15 rfl rfl)
theorem dX23_begin_16 : decode cX23_begin 16 = .ok (.putfield 40, 3) := dk_181 0 40 (dk_at dksX23_begin_0 16 rfl rfl)
theorem dX23_begin_19 : decode cX23_begin 19 = .ok (.return_, 1) := dk_177 (dk_at dksX23_begin_0 19 rfl rfl)
abbrev cX23_empty : ByteArray := prog_12_method_3_code
def yX23_empty : MethodName := ⟨RX23, "empty", "()V"⟩
def dkwX23_empty_1 : List UInt8 := [132, 1, 1, 167, 255, 239, 42, 2, 181, 0, 46, 42, 2, 181, 0, 49, 177]
abbrev dktX23_empty_1 : List UInt8 := dkwX23_empty_1 ++ []
def dkwX23_empty_0 : List UInt8 := [42, 180, 0, 12, 182, 0, 43, 3, 60, 27, 17, 4, 0, 162, 0, 16, 42, 180, 0, 18, 27, 2, 79]
abbrev dktX23_empty_0 : List UInt8 := dkwX23_empty_0 ++ dktX23_empty_1
theorem dksX23_empty_0 : cX23_empty.data.toList.drop 0 = dktX23_empty_0 := by decide +kernel
theorem dksX23_empty_1 : cX23_empty.data.toList.drop 23 = dktX23_empty_1 := dk_seg dksX23_empty_0 23 rfl rfl
theorem dX23_empty_0 : decode cX23_empty 0 = .ok (.aload_n 0, 1) := dk_42 (dk_at dksX23_empty_0 0 rfl rfl)
theorem dX23_empty_1 : decode cX23_empty 1 = .ok (.getfield 12, 3) := dk_180 0 12 (dk_at dksX23_empty_0 1 rfl rfl)
theorem dX23_empty_4 : decode cX23_empty 4 = .ok (.invokevirtual 43, 3) := dk_182 0 43 (dk_at dksX23_empty_0 4 rfl rfl)
theorem dX23_empty_7 : decode cX23_empty 7 = .ok (.iconst 0, 1) := dk_3 (dk_at dksX23_empty_0 7 rfl rfl)
theorem dX23_empty_8 : decode cX23_empty 8 = .ok (.istore_n 1, 1) := dk_60 (dk_at dksX23_empty_0 8 rfl rfl)
theorem dX23_empty_9 : decode cX23_empty 9 = .ok (.iload_n 1, 1) := dk_27 (dk_at dksX23_empty_0 9 rfl rfl)
theorem dX23_empty_10 : decode cX23_empty 10 = .ok (.sipush 1024, 3) := dk_17 4 0 (dk_at dksX23_empty_0 10 rfl rfl)
theorem dX23_empty_13 : decode cX23_empty 13 = .ok (.if_icmp .ge 16, 3) := dk_162 0 16 (dk_at dksX23_empty_0 13 rfl rfl)
theorem dX23_empty_16 : decode cX23_empty 16 = .ok (.aload_n 0, 1) := dk_42 (dk_at dksX23_empty_0 16 rfl rfl)
theorem dX23_empty_17 : decode cX23_empty 17 = .ok (.getfield 18, 3) := dk_180 0 18 (dk_at dksX23_empty_0 17 rfl rfl)
theorem dX23_empty_20 : decode cX23_empty 20 = .ok (.iload_n 1, 1) := dk_27 (dk_at dksX23_empty_0 20 rfl rfl)
theorem dX23_empty_21 : decode cX23_empty 21 = .ok (.iconst (-1), 1) := dk_2 (dk_at dksX23_empty_0 21 rfl rfl)
theorem dX23_empty_22 : decode cX23_empty 22 = .ok (.iastore, 1) := dk_79 (dk_at dksX23_empty_0 22 rfl rfl)
theorem dX23_empty_23 : decode cX23_empty 23 = .ok (.iinc 1 1, 3) := dk_132 1 1 (dk_at dksX23_empty_1 0 rfl rfl)
theorem dX23_empty_26 : decode cX23_empty 26 = .ok (.goto (-17), 3) := dk_167 255 239 (dk_at dksX23_empty_1 3 rfl rfl)
theorem dX23_empty_29 : decode cX23_empty 29 = .ok (.aload_n 0, 1) := dk_42 (dk_at dksX23_empty_1 6 rfl rfl)
theorem dX23_empty_30 : decode cX23_empty 30 = .ok (.iconst (-1), 1) := dk_2 (dk_at dksX23_empty_1 7 rfl rfl)
theorem dX23_empty_31 : decode cX23_empty 31 = .ok (.putfield 46, 3) := dk_181 0 46 (dk_at dksX23_empty_1 8 rfl rfl)
theorem dX23_empty_34 : decode cX23_empty 34 = .ok (.aload_n 0, 1) := dk_42 (dk_at dksX23_empty_1 11 rfl rfl)
theorem dX23_empty_35 : decode cX23_empty 35 = .ok (.iconst (-1), 1) := dk_2 (dk_at dksX23_empty_1 12 rfl rfl)
theorem dX23_empty_36 : decode cX23_empty 36 = .ok (.putfield 49, 3) := dk_181 0 49 (dk_at dksX23_empty_1 13 rfl rfl)
theorem dX23_empty_39 : decode cX23_empty 39 = .ok (.return_, 1) := dk_177 (dk_at dksX23_empty_1 16 rfl rfl)
abbrev cX23_find : ByteArray := prog_12_method_7_code
def yX23_find : MethodName := ⟨RX23, "find", "(I)I"⟩
def dkwX23_find_1 : List UInt8 := [159, 0, 16, 42, 180, 0, 12, 180, 0, 63, 28, 46, 61, 167, 255, 229, 28, 172]
abbrev dktX23_find_1 : List UInt8 := dkwX23_find_1 ++ []
def dkwX23_find_0 : List UInt8 := [42, 180, 0, 18, 27, 184, 0, 56, 46, 61, 28, 155, 0, 29, 42, 180, 0, 12, 180, 0, 60, 28, 46, 27]
abbrev dktX23_find_0 : List UInt8 := dkwX23_find_0 ++ dktX23_find_1
theorem dksX23_find_0 : cX23_find.data.toList.drop 0 = dktX23_find_0 := by decide +kernel
theorem dksX23_find_1 : cX23_find.data.toList.drop 24 = dktX23_find_1 := dk_seg dksX23_find_0 24 rfl rfl
theorem dX23_find_0 : decode cX23_find 0 = .ok (.aload_n 0, 1) := dk_42 (dk_at dksX23_find_0 0 rfl rfl)
theorem dX23_find_1 : decode cX23_find 1 = .ok (.getfield 18, 3) := dk_180 0 18 (dk_at dksX23_find_0 1 rfl rfl)
theorem dX23_find_4 : decode cX23_find 4 = .ok (.iload_n 1, 1) := dk_27 (dk_at dksX23_find_0 4 rfl rfl)
theorem dX23_find_5 : decode cX23_find 5 = .ok (.invokestatic 56, 3) := dk_184 0 56 (dk_at dksX23_find_0 5 rfl rfl)
theorem dX23_find_8 : decode cX23_find 8 = .ok (.iaload, 1) := dk_46 (dk_at dksX23_find_0 8 rfl rfl)
theorem dX23_find_9 : decode cX23_find 9 = .ok (.istore_n 2, 1) := dk_61 (dk_at dksX23_find_0 9 rfl rfl)
theorem dX23_find_10 : decode cX23_find 10 = .ok (.iload_n 2, 1) := dk_28 (dk_at dksX23_find_0 10 rfl rfl)
theorem dX23_find_11 : decode cX23_find 11 = .ok (.ifCond .lt 29, 3) := dk_155 0 29 (dk_at dksX23_find_0 11 rfl rfl)
theorem dX23_find_14 : decode cX23_find 14 = .ok (.aload_n 0, 1) := dk_42 (dk_at dksX23_find_0 14 rfl rfl)
theorem dX23_find_15 : decode cX23_find 15 = .ok (.getfield 12, 3) := dk_180 0 12 (dk_at dksX23_find_0 15 rfl rfl)
theorem dX23_find_18 : decode cX23_find 18 = .ok (.getfield 60, 3) := dk_180 0 60 (dk_at dksX23_find_0 18 rfl rfl)
theorem dX23_find_21 : decode cX23_find 21 = .ok (.iload_n 2, 1) := dk_28 (dk_at dksX23_find_0 21 rfl rfl)
theorem dX23_find_22 : decode cX23_find 22 = .ok (.iaload, 1) := dk_46 (dk_at dksX23_find_0 22 rfl rfl)
theorem dX23_find_23 : decode cX23_find 23 = .ok (.iload_n 1, 1) := dk_27 (dk_at dksX23_find_0 23 rfl rfl)
theorem dX23_find_24 : decode cX23_find 24 = .ok (.if_icmp .eq 16, 3) := dk_159 0 16 (dk_at dksX23_find_1 0 rfl rfl)
theorem dX23_find_27 : decode cX23_find 27 = .ok (.aload_n 0, 1) := dk_42 (dk_at dksX23_find_1 3 rfl rfl)
theorem dX23_find_28 : decode cX23_find 28 = .ok (.getfield 12, 3) := dk_180 0 12 (dk_at dksX23_find_1 4 rfl rfl)
theorem dX23_find_31 : decode cX23_find 31 = .ok (.getfield 63, 3) := dk_180 0 63 (dk_at dksX23_find_1 7 rfl rfl)
theorem dX23_find_34 : decode cX23_find 34 = .ok (.iload_n 2, 1) := dk_28 (dk_at dksX23_find_1 10 rfl rfl)
theorem dX23_find_35 : decode cX23_find 35 = .ok (.iaload, 1) := dk_46 (dk_at dksX23_find_1 11 rfl rfl)
theorem dX23_find_36 : decode cX23_find 36 = .ok (.istore_n 2, 1) := dk_61 (dk_at dksX23_find_1 12 rfl rfl)
theorem dX23_find_37 : decode cX23_find 37 = .ok (.goto (-27), 3) := dk_167 255 229 (dk_at dksX23_find_1 13 rfl rfl)
theorem dX23_find_40 : decode cX23_find 40 = .ok (.iload_n 2, 1) := dk_28 (dk_at dksX23_find_1 16 rfl rfl)
theorem dX23_find_41 : decode cX23_find 41 = .ok (.ireturn, 1) := dk_172 (dk_at dksX23_find_1 17 rfl rfl)
abbrev cX23_bin : ByteArray := prog_12_method_4_code
def yX23_bin : MethodName := ⟨RX23, "bin", "(I)I"⟩
def dkwX23_bin_0 : List UInt8 := [26, 18, 52, 104, 60, 27, 16, 22, 124, 172]
abbrev dktX23_bin_0 : List UInt8 := dkwX23_bin_0 ++ []
theorem dksX23_bin_0 : cX23_bin.data.toList.drop 0 = dktX23_bin_0 := by decide +kernel
theorem dX23_bin_0 : decode cX23_bin 0 = .ok (.iload_n 0, 1) := dk_26 (dk_at dksX23_bin_0 0 rfl rfl)
theorem dX23_bin_1 : decode cX23_bin 1 = .ok (.ldc 52, 2) := dk_18 52 (dk_at dksX23_bin_0 1 rfl rfl)
theorem dX23_bin_3 : decode cX23_bin 3 = .ok (.imul, 1) := dk_104 (dk_at dksX23_bin_0 3 rfl rfl)
theorem dX23_bin_4 : decode cX23_bin 4 = .ok (.istore_n 1, 1) := dk_60 (dk_at dksX23_bin_0 4 rfl rfl)
theorem dX23_bin_5 : decode cX23_bin 5 = .ok (.iload_n 1, 1) := dk_27 (dk_at dksX23_bin_0 5 rfl rfl)
theorem dX23_bin_6 : decode cX23_bin 6 = .ok (.bipush 22, 2) := dk_16 22 (dk_at dksX23_bin_0 6 rfl rfl)
theorem dX23_bin_8 : decode cX23_bin 8 = .ok (.iushr, 1) := dk_124 (dk_at dksX23_bin_0 8 rfl rfl)
theorem dX23_bin_9 : decode cX23_bin 9 = .ok (.ireturn, 1) := dk_172 (dk_at dksX23_bin_0 9 rfl rfl)
abbrev cX23_value : ByteArray := prog_12_method_12_code
def yX23_value : MethodName := ⟨RX23, "value", "(I)I"⟩
def dkwX23_value_0 : List UInt8 := [42, 180, 0, 12, 180, 0, 66, 27, 46, 172]
abbrev dktX23_value_0 : List UInt8 := dkwX23_value_0 ++ []
theorem dksX23_value_0 : cX23_value.data.toList.drop 0 = dktX23_value_0 := by decide +kernel
theorem dX23_value_0 : decode cX23_value 0 = .ok (.aload_n 0, 1) := dk_42 (dk_at dksX23_value_0 0 rfl rfl)
theorem dX23_value_1 : decode cX23_value 1 = .ok (.getfield 12, 3) := dk_180 0 12 (dk_at dksX23_value_0 1 rfl rfl)
theorem dX23_value_4 : decode cX23_value 4 = .ok (.getfield 66, 3) := dk_180 0 66 (dk_at dksX23_value_0 4 rfl rfl)
theorem dX23_value_7 : decode cX23_value 7 = .ok (.iload_n 1, 1) := dk_27 (dk_at dksX23_value_0 7 rfl rfl)
theorem dX23_value_8 : decode cX23_value 8 = .ok (.iaload, 1) := dk_46 (dk_at dksX23_value_0 8 rfl rfl)
theorem dX23_value_9 : decode cX23_value 9 = .ok (.ireturn, 1) := dk_172 (dk_at dksX23_value_0 9 rfl rfl)
abbrev cX23_setValue : ByteArray := prog_12_method_13_code
def yX23_setValue : MethodName := ⟨RX23, "setValue", "(II)V"⟩
def dkwX23_setValue_0 : List UInt8 := [42, 180, 0, 12, 180, 0, 66, 27, 28, 79, 177]
abbrev dktX23_setValue_0 : List UInt8 := dkwX23_setValue_0 ++ []
theorem dksX23_setValue_0 : cX23_setValue.data.toList.drop 0 = dktX23_setValue_0 := by decide +kernel
theorem dX23_setValue_0 : decode cX23_setValue 0 = .ok (.aload_n 0, 1) := dk_42 (dk_at dksX23_setValue_0 0 rfl rfl)
theorem dX23_setValue_1 : decode cX23_setValue 1 = .ok (.getfield 12, 3) := dk_180 0 12 (dk_at dksX23_setValue_0 1 rfl rfl)
theorem dX23_setValue_4 : decode cX23_setValue 4 = .ok (.getfield 66, 3) := dk_180 0 66 (dk_at dksX23_setValue_0 4 rfl rfl)
theorem dX23_setValue_7 : decode cX23_setValue 7 = .ok (.iload_n 1, 1) := dk_27 (dk_at dksX23_setValue_0 7 rfl rfl)
theorem dX23_setValue_8 : decode cX23_setValue 8 = .ok (.iload_n 2, 1) := dk_28 (dk_at dksX23_setValue_0 8 rfl rfl)
theorem dX23_setValue_9 : decode cX23_setValue 9 = .ok (.iastore, 1) := dk_79 (dk_at dksX23_setValue_0 9 rfl rfl)
theorem dX23_setValue_10 : decode cX23_setValue 10 = .ok (.return_, 1) := dk_177 (dk_at dksX23_setValue_0 10 rfl rfl)
abbrev cX23_use : ByteArray := prog_12_method_17_code
def yX23_use : MethodName := ⟨RX23, "use", "(I)V"⟩
def dkwX23_use_1 : List UInt8 := [182, 0, 76, 42, 89, 180, 0, 40, 4, 96, 181, 0, 40, 177]
abbrev dktX23_use_1 : List UInt8 := dkwX23_use_1 ++ []
def dkwX23_use_0 : List UInt8 := [42, 180, 0, 36, 153, 0, 11, 27, 42, 180, 0, 49, 160, 0, 4, 177, 42, 27, 182, 0, 73, 42, 27]
abbrev dktX23_use_0 : List UInt8 := dkwX23_use_0 ++ dktX23_use_1
theorem dksX23_use_0 : cX23_use.data.toList.drop 0 = dktX23_use_0 := by decide +kernel
theorem dksX23_use_1 : cX23_use.data.toList.drop 23 = dktX23_use_1 := dk_seg dksX23_use_0 23 rfl rfl
theorem dX23_use_0 : decode cX23_use 0 = .ok (.aload_n 0, 1) := dk_42 (dk_at dksX23_use_0 0 rfl rfl)
theorem dX23_use_1 : decode cX23_use 1 = .ok (.getfield 36, 3) := dk_180 0 36 (dk_at dksX23_use_0 1 rfl rfl)
theorem dX23_use_4 : decode cX23_use 4 = .ok (.ifCond .eq 11, 3) := dk_153 0 11 (dk_at dksX23_use_0 4 rfl rfl)
theorem dX23_use_7 : decode cX23_use 7 = .ok (.iload_n 1, 1) := dk_27 (dk_at dksX23_use_0 7 rfl rfl)
theorem dX23_use_8 : decode cX23_use 8 = .ok (.aload_n 0, 1) := dk_42 (dk_at dksX23_use_0 8 rfl rfl)
theorem dX23_use_9 : decode cX23_use 9 = .ok (.getfield 49, 3) := dk_180 0 49 (dk_at dksX23_use_0 9 rfl rfl)
theorem dX23_use_12 : decode cX23_use 12 = .ok (.if_icmp .ne 4, 3) := dk_160 0 4 (dk_at dksX23_use_0 12 rfl rfl)
theorem dX23_use_15 : decode cX23_use 15 = .ok (.return_, 1) := dk_177 (dk_at dksX23_use_0 15 rfl rfl)
theorem dX23_use_16 : decode cX23_use 16 = .ok (.aload_n 0, 1) := dk_42 (dk_at dksX23_use_0 16 rfl rfl)
theorem dX23_use_17 : decode cX23_use 17 = .ok (.iload_n 1, 1) := dk_27 (dk_at dksX23_use_0 17 rfl rfl)
theorem dX23_use_18 : decode cX23_use 18 = .ok (.invokevirtual 73, 3) := dk_182 0 73 (dk_at dksX23_use_0 18 rfl rfl)
theorem dX23_use_21 : decode cX23_use 21 = .ok (.aload_n 0, 1) := dk_42 (dk_at dksX23_use_0 21 rfl rfl)
theorem dX23_use_22 : decode cX23_use 22 = .ok (.iload_n 1, 1) := dk_27 (dk_at dksX23_use_0 22 rfl rfl)
theorem dX23_use_23 : decode cX23_use 23 = .ok (.invokevirtual 76, 3) := dk_182 0 76 (dk_at dksX23_use_1 0 rfl rfl)
theorem dX23_use_26 : decode cX23_use 26 = .ok (.aload_n 0, 1) := dk_42 (dk_at dksX23_use_1 3 rfl rfl)
theorem dX23_use_27 : decode cX23_use 27 = .ok (.dup, 1) := dk_89 (dk_at dksX23_use_1 4 rfl rfl)
theorem dX23_use_28 : decode cX23_use 28 = .ok (.getfield 40, 3) := dk_180 0 40 (dk_at dksX23_use_1 5 rfl rfl)
theorem dX23_use_31 : decode cX23_use 31 = .ok (.iconst 1, 1) := dk_4 (dk_at dksX23_use_1 8 rfl rfl)
theorem dX23_use_32 : decode cX23_use 32 = .ok (.iadd, 1) := dk_96 (dk_at dksX23_use_1 9 rfl rfl)
theorem dX23_use_33 : decode cX23_use 33 = .ok (.putfield 40, 3) := dk_181 0 40 (dk_at dksX23_use_1 10 rfl rfl)
theorem dX23_use_36 : decode cX23_use 36 = .ok (.return_, 1) := dk_177 (dk_at dksX23_use_1 13 rfl rfl)
abbrev cX23_unlink : ByteArray := prog_12_method_16_code
def yX23_unlink : MethodName := ⟨RX23, "unlink", "(I)V"⟩
def dkwX23_unlink_3 : List UInt8 := [27, 46, 42, 180, 0, 22, 27, 46, 79, 177]
abbrev dktX23_unlink_3 : List UInt8 := dkwX23_unlink_3 ++ []
def dkwX23_unlink_2 : List UInt8 := [156, 0, 16, 42, 42, 180, 0, 22, 27, 46, 181, 0, 49, 167, 0, 20, 42, 180, 0, 22, 42, 180, 0, 25]
abbrev dktX23_unlink_2 : List UInt8 := dkwX23_unlink_2 ++ dktX23_unlink_3
def dkwX23_unlink_1 : List UInt8 := [180, 0, 25, 42, 180, 0, 22, 27, 46, 42, 180, 0, 25, 27, 46, 79, 42, 180, 0, 25, 27, 46]
abbrev dktX23_unlink_1 : List UInt8 := dkwX23_unlink_1 ++ dktX23_unlink_2
def dkwX23_unlink_0 : List UInt8 := [42, 180, 0, 22, 27, 46, 156, 0, 16, 42, 42, 180, 0, 25, 27, 46, 181, 0, 46, 167, 0, 20, 42]
abbrev dktX23_unlink_0 : List UInt8 := dkwX23_unlink_0 ++ dktX23_unlink_1
theorem dksX23_unlink_0 : cX23_unlink.data.toList.drop 0 = dktX23_unlink_0 := by decide +kernel
theorem dksX23_unlink_1 : cX23_unlink.data.toList.drop 23 = dktX23_unlink_1 := dk_seg dksX23_unlink_0 23 rfl rfl
theorem dksX23_unlink_2 : cX23_unlink.data.toList.drop 45 = dktX23_unlink_2 := dk_seg dksX23_unlink_1 22 rfl rfl
theorem dksX23_unlink_3 : cX23_unlink.data.toList.drop 69 = dktX23_unlink_3 := dk_seg dksX23_unlink_2 24 rfl rfl
theorem dX23_unlink_0 : decode cX23_unlink 0 = .ok (.aload_n 0, 1) := dk_42 (dk_at dksX23_unlink_0 0 rfl rfl)
theorem dX23_unlink_1 : decode cX23_unlink 1 = .ok (.getfield 22, 3) := dk_180 0 22 (dk_at dksX23_unlink_0 1 rfl rfl)
theorem dX23_unlink_4 : decode cX23_unlink 4 = .ok (.iload_n 1, 1) := dk_27 (dk_at dksX23_unlink_0 4 rfl rfl)
theorem dX23_unlink_5 : decode cX23_unlink 5 = .ok (.iaload, 1) := dk_46 (dk_at dksX23_unlink_0 5 rfl rfl)
theorem dX23_unlink_6 : decode cX23_unlink 6 = .ok (.ifCond .ge 16, 3) := dk_156 0 16 (dk_at dksX23_unlink_0 6 rfl rfl)
theorem dX23_unlink_9 : decode cX23_unlink 9 = .ok (.aload_n 0, 1) := dk_42 (dk_at dksX23_unlink_0 9 rfl rfl)
theorem dX23_unlink_10 : decode cX23_unlink 10 = .ok (.aload_n 0, 1) := dk_42 (dk_at dksX23_unlink_0 10 rfl rfl)
theorem dX23_unlink_11 : decode cX23_unlink 11 = .ok (.getfield 25, 3) := dk_180 0 25 (dk_at dksX23_unlink_0 11 rfl rfl)
theorem dX23_unlink_14 : decode cX23_unlink 14 = .ok (.iload_n 1, 1) := dk_27 (dk_at dksX23_unlink_0 14 rfl rfl)
theorem dX23_unlink_15 : decode cX23_unlink 15 = .ok (.iaload, 1) := dk_46 (dk_at dksX23_unlink_0 15 rfl rfl)
theorem dX23_unlink_16 : decode cX23_unlink 16 = .ok (.putfield 46, 3) := dk_181 0 46 (dk_at dksX23_unlink_0 16 rfl rfl)
theorem dX23_unlink_19 : decode cX23_unlink 19 = .ok (.goto 20, 3) := dk_167 0 20 (dk_at dksX23_unlink_0 19 rfl rfl)
theorem dX23_unlink_22 : decode cX23_unlink 22 = .ok (.aload_n 0, 1) := dk_42 (dk_at dksX23_unlink_0 22 rfl rfl)
theorem dX23_unlink_23 : decode cX23_unlink 23 = .ok (.getfield 25, 3) := dk_180 0 25 (dk_at dksX23_unlink_1 0 rfl rfl)
theorem dX23_unlink_26 : decode cX23_unlink 26 = .ok (.aload_n 0, 1) := dk_42 (dk_at dksX23_unlink_1 3 rfl rfl)
theorem dX23_unlink_27 : decode cX23_unlink 27 = .ok (.getfield 22, 3) := dk_180 0 22 (dk_at dksX23_unlink_1 4 rfl rfl)
theorem dX23_unlink_30 : decode cX23_unlink 30 = .ok (.iload_n 1, 1) := dk_27 (dk_at dksX23_unlink_1 7 rfl rfl)
theorem dX23_unlink_31 : decode cX23_unlink 31 = .ok (.iaload, 1) := dk_46 (dk_at dksX23_unlink_1 8 rfl rfl)
theorem dX23_unlink_32 : decode cX23_unlink 32 = .ok (.aload_n 0, 1) := dk_42 (dk_at dksX23_unlink_1 9 rfl rfl)
theorem dX23_unlink_33 : decode cX23_unlink 33 = .ok (.getfield 25, 3) := dk_180 0 25 (dk_at dksX23_unlink_1 10 rfl rfl)
theorem dX23_unlink_36 : decode cX23_unlink 36 = .ok (.iload_n 1, 1) := dk_27 (dk_at dksX23_unlink_1 13 rfl rfl)
theorem dX23_unlink_37 : decode cX23_unlink 37 = .ok (.iaload, 1) := dk_46 (dk_at dksX23_unlink_1 14 rfl rfl)
theorem dX23_unlink_38 : decode cX23_unlink 38 = .ok (.iastore, 1) := dk_79 (dk_at dksX23_unlink_1 15 rfl rfl)
theorem dX23_unlink_39 : decode cX23_unlink 39 = .ok (.aload_n 0, 1) := dk_42 (dk_at dksX23_unlink_1 16 rfl rfl)
theorem dX23_unlink_40 : decode cX23_unlink 40 = .ok (.getfield 25, 3) := dk_180 0 25 (dk_at dksX23_unlink_1 17 rfl rfl)
theorem dX23_unlink_43 : decode cX23_unlink 43 = .ok (.iload_n 1, 1) := dk_27 (dk_at dksX23_unlink_1 20 rfl rfl)
theorem dX23_unlink_44 : decode cX23_unlink 44 = .ok (.iaload, 1) := dk_46 (dk_at dksX23_unlink_1 21 rfl rfl)
theorem dX23_unlink_45 : decode cX23_unlink 45 = .ok (.ifCond .ge 16, 3) := dk_156 0 16 (dk_at dksX23_unlink_2 0 rfl rfl)
theorem dX23_unlink_48 : decode cX23_unlink 48 = .ok (.aload_n 0, 1) := dk_42 (dk_at dksX23_unlink_2 3 rfl rfl)
theorem dX23_unlink_49 : decode cX23_unlink 49 = .ok (.aload_n 0, 1) := dk_42 (dk_at dksX23_unlink_2 4 rfl rfl)
theorem dX23_unlink_50 : decode cX23_unlink 50 = .ok (.getfield 22, 3) := dk_180 0 22 (dk_at dksX23_unlink_2 5 rfl rfl)
theorem dX23_unlink_53 : decode cX23_unlink 53 = .ok (.iload_n 1, 1) := dk_27 (dk_at dksX23_unlink_2 8 rfl rfl)
theorem dX23_unlink_54 : decode cX23_unlink 54 = .ok (.iaload, 1) := dk_46 (dk_at dksX23_unlink_2 9 rfl rfl)
theorem dX23_unlink_55 : decode cX23_unlink 55 = .ok (.putfield 49, 3) := dk_181 0 49 (dk_at dksX23_unlink_2 10 rfl rfl)
theorem dX23_unlink_58 : decode cX23_unlink 58 = .ok (.goto 20, 3) := dk_167 0 20 (dk_at dksX23_unlink_2 13 rfl rfl)
theorem dX23_unlink_61 : decode cX23_unlink 61 = .ok (.aload_n 0, 1) := dk_42 (dk_at dksX23_unlink_2 16 rfl rfl)
theorem dX23_unlink_62 : decode cX23_unlink 62 = .ok (.getfield 22, 3) := dk_180 0 22 (dk_at dksX23_unlink_2 17 rfl rfl)
theorem dX23_unlink_65 : decode cX23_unlink 65 = .ok (.aload_n 0, 1) := dk_42 (dk_at dksX23_unlink_2 20 rfl rfl)
theorem dX23_unlink_66 : decode cX23_unlink 66 = .ok (.getfield 25, 3) := dk_180 0 25 (dk_at dksX23_unlink_2 21 rfl rfl)
theorem dX23_unlink_69 : decode cX23_unlink 69 = .ok (.iload_n 1, 1) := dk_27 (dk_at dksX23_unlink_3 0 rfl rfl)
theorem dX23_unlink_70 : decode cX23_unlink 70 = .ok (.iaload, 1) := dk_46 (dk_at dksX23_unlink_3 1 rfl rfl)
theorem dX23_unlink_71 : decode cX23_unlink 71 = .ok (.aload_n 0, 1) := dk_42 (dk_at dksX23_unlink_3 2 rfl rfl)
theorem dX23_unlink_72 : decode cX23_unlink 72 = .ok (.getfield 22, 3) := dk_180 0 22 (dk_at dksX23_unlink_3 3 rfl rfl)
theorem dX23_unlink_75 : decode cX23_unlink 75 = .ok (.iload_n 1, 1) := dk_27 (dk_at dksX23_unlink_3 6 rfl rfl)
theorem dX23_unlink_76 : decode cX23_unlink 76 = .ok (.iaload, 1) := dk_46 (dk_at dksX23_unlink_3 7 rfl rfl)
theorem dX23_unlink_77 : decode cX23_unlink 77 = .ok (.iastore, 1) := dk_79 (dk_at dksX23_unlink_3 8 rfl rfl)
theorem dX23_unlink_78 : decode cX23_unlink 78 = .ok (.return_, 1) := dk_177 (dk_at dksX23_unlink_3 9 rfl rfl)
abbrev cX23_link : ByteArray := prog_12_method_15_code
def yX23_link : MethodName := ⟨RX23, "link", "(I)V"⟩
def dkwX23_link_1 : List UInt8 := [42, 27, 181, 0, 46, 167, 0, 13, 42, 180, 0, 25, 42, 180, 0, 49, 27, 79, 42, 27, 181, 0, 49, 177]
abbrev dktX23_link_1 : List UInt8 := dkwX23_link_1 ++ []
def dkwX23_link_0 : List UInt8 := [42, 180, 0, 22, 27, 42, 180, 0, 49, 79, 42, 180, 0, 25, 27, 2, 79, 42, 180, 0, 49, 156, 0, 11]
abbrev dktX23_link_0 : List UInt8 := dkwX23_link_0 ++ dktX23_link_1
theorem dksX23_link_0 : cX23_link.data.toList.drop 0 = dktX23_link_0 := by decide +kernel
theorem dksX23_link_1 : cX23_link.data.toList.drop 24 = dktX23_link_1 := dk_seg dksX23_link_0 24 rfl rfl
theorem dX23_link_0 : decode cX23_link 0 = .ok (.aload_n 0, 1) := dk_42 (dk_at dksX23_link_0 0 rfl rfl)
theorem dX23_link_1 : decode cX23_link 1 = .ok (.getfield 22, 3) := dk_180 0 22 (dk_at dksX23_link_0 1 rfl rfl)
theorem dX23_link_4 : decode cX23_link 4 = .ok (.iload_n 1, 1) := dk_27 (dk_at dksX23_link_0 4 rfl rfl)
theorem dX23_link_5 : decode cX23_link 5 = .ok (.aload_n 0, 1) := dk_42 (dk_at dksX23_link_0 5 rfl rfl)
theorem dX23_link_6 : decode cX23_link 6 = .ok (.getfield 49, 3) := dk_180 0 49 (dk_at dksX23_link_0 6 rfl rfl)
theorem dX23_link_9 : decode cX23_link 9 = .ok (.iastore, 1) := dk_79 (dk_at dksX23_link_0 9 rfl rfl)
theorem dX23_link_10 : decode cX23_link 10 = .ok (.aload_n 0, 1) := dk_42 (dk_at dksX23_link_0 10 rfl rfl)
theorem dX23_link_11 : decode cX23_link 11 = .ok (.getfield 25, 3) := dk_180 0 25 (dk_at dksX23_link_0 11 rfl rfl)
theorem dX23_link_14 : decode cX23_link 14 = .ok (.iload_n 1, 1) := dk_27 (dk_at dksX23_link_0 14 rfl rfl)
theorem dX23_link_15 : decode cX23_link 15 = .ok (.iconst (-1), 1) := dk_2 (dk_at dksX23_link_0 15 rfl rfl)
theorem dX23_link_16 : decode cX23_link 16 = .ok (.iastore, 1) := dk_79 (dk_at dksX23_link_0 16 rfl rfl)
theorem dX23_link_17 : decode cX23_link 17 = .ok (.aload_n 0, 1) := dk_42 (dk_at dksX23_link_0 17 rfl rfl)
theorem dX23_link_18 : decode cX23_link 18 = .ok (.getfield 49, 3) := dk_180 0 49 (dk_at dksX23_link_0 18 rfl rfl)
theorem dX23_link_21 : decode cX23_link 21 = .ok (.ifCond .ge 11, 3) := dk_156 0 11 (dk_at dksX23_link_0 21 rfl rfl)
theorem dX23_link_24 : decode cX23_link 24 = .ok (.aload_n 0, 1) := dk_42 (dk_at dksX23_link_1 0 rfl rfl)
theorem dX23_link_25 : decode cX23_link 25 = .ok (.iload_n 1, 1) := dk_27 (dk_at dksX23_link_1 1 rfl rfl)
theorem dX23_link_26 : decode cX23_link 26 = .ok (.putfield 46, 3) := dk_181 0 46 (dk_at dksX23_link_1 2 rfl rfl)
theorem dX23_link_29 : decode cX23_link 29 = .ok (.goto 13, 3) := dk_167 0 13 (dk_at dksX23_link_1 5 rfl rfl)
theorem dX23_link_32 : decode cX23_link 32 = .ok (.aload_n 0, 1) := dk_42 (dk_at dksX23_link_1 8 rfl rfl)
theorem dX23_link_33 : decode cX23_link 33 = .ok (.getfield 25, 3) := dk_180 0 25 (dk_at dksX23_link_1 9 rfl rfl)
theorem dX23_link_36 : decode cX23_link 36 = .ok (.aload_n 0, 1) := dk_42 (dk_at dksX23_link_1 12 rfl rfl)
theorem dX23_link_37 : decode cX23_link 37 = .ok (.getfield 49, 3) := dk_180 0 49 (dk_at dksX23_link_1 13 rfl rfl)
theorem dX23_link_40 : decode cX23_link 40 = .ok (.iload_n 1, 1) := dk_27 (dk_at dksX23_link_1 16 rfl rfl)
theorem dX23_link_41 : decode cX23_link 41 = .ok (.iastore, 1) := dk_79 (dk_at dksX23_link_1 17 rfl rfl)
theorem dX23_link_42 : decode cX23_link 42 = .ok (.aload_n 0, 1) := dk_42 (dk_at dksX23_link_1 18 rfl rfl)
theorem dX23_link_43 : decode cX23_link 43 = .ok (.iload_n 1, 1) := dk_27 (dk_at dksX23_link_1 19 rfl rfl)
theorem dX23_link_44 : decode cX23_link 44 = .ok (.putfield 49, 3) := dk_181 0 49 (dk_at dksX23_link_1 20 rfl rfl)
theorem dX23_link_47 : decode cX23_link 47 = .ok (.return_, 1) := dk_177 (dk_at dksX23_link_1 23 rfl rfl)
abbrev cX23_checkRoom : ByteArray := prog_12_method_14_code
def yX23_checkRoom : MethodName := ⟨RX23, "checkRoom", "(I)V"⟩
def dkwX23_checkRoom_1 : List UInt8 := [3, 184, 0, 69, 177]
abbrev dktX23_checkRoom_1 : List UInt8 := dkwX23_checkRoom_1 ++ []
def dkwX23_checkRoom_0 : List UInt8 := [42, 180, 0, 32, 157, 0, 16, 42, 180, 0, 12, 180, 0, 53, 17, 3, 232, 162, 0, 7, 4, 167, 0, 4]
abbrev dktX23_checkRoom_0 : List UInt8 := dkwX23_checkRoom_0 ++ dktX23_checkRoom_1
theorem dksX23_checkRoom_0 : cX23_checkRoom.data.toList.drop 0 = dktX23_checkRoom_0 := by decide +kernel
theorem dksX23_checkRoom_1 : cX23_checkRoom.data.toList.drop 24 = dktX23_checkRoom_1 := dk_seg dksX23_checkRoom_0 24 rfl rfl
theorem dX23_checkRoom_0 : decode cX23_checkRoom 0 = .ok (.aload_n 0, 1) := dk_42 (dk_at dksX23_checkRoom_0 0 rfl rfl)
theorem dX23_checkRoom_1 : decode cX23_checkRoom 1 = .ok (.getfield 32, 3) := dk_180 0 32 (dk_at dksX23_checkRoom_0 1 rfl rfl)
theorem dX23_checkRoom_4 : decode cX23_checkRoom 4 = .ok (.ifCond .gt 16, 3) := dk_157 0 16 (dk_at dksX23_checkRoom_0 4 rfl rfl)
theorem dX23_checkRoom_7 : decode cX23_checkRoom 7 = .ok (.aload_n 0, 1) := dk_42 (dk_at dksX23_checkRoom_0 7 rfl rfl)
theorem dX23_checkRoom_8 : decode cX23_checkRoom 8 = .ok (.getfield 12, 3) := dk_180 0 12 (dk_at dksX23_checkRoom_0 8 rfl rfl)
theorem dX23_checkRoom_11 : decode cX23_checkRoom 11 = .ok (.getfield 53, 3) := dk_180 0 53 (dk_at dksX23_checkRoom_0 11 rfl rfl)
theorem dX23_checkRoom_14 : decode cX23_checkRoom 14 = .ok (.sipush 1000, 3) := dk_17 3 232 (dk_at dksX23_checkRoom_0 14 rfl rfl)
theorem dX23_checkRoom_17 : decode cX23_checkRoom 17 = .ok (.if_icmp .ge 7, 3) := dk_162 0 7 (dk_at dksX23_checkRoom_0 17 rfl rfl)
theorem dX23_checkRoom_20 : decode cX23_checkRoom 20 = .ok (.iconst 1, 1) := dk_4 (dk_at dksX23_checkRoom_0 20 rfl rfl)
theorem dX23_checkRoom_21 : decode cX23_checkRoom 21 = .ok (.goto 4, 3) := dk_167 0 4 (dk_at dksX23_checkRoom_0 21 rfl rfl)
theorem dX23_checkRoom_24 : decode cX23_checkRoom 24 = .ok (.iconst 0, 1) := dk_3 (dk_at dksX23_checkRoom_1 0 rfl rfl)
theorem dX23_checkRoom_25 : decode cX23_checkRoom 25 = .ok (.invokestatic 69, 3) := dk_184 0 69 (dk_at dksX23_checkRoom_1 1 rfl rfl)
theorem dX23_checkRoom_28 : decode cX23_checkRoom 28 = .ok (.return_, 1) := dk_177 (dk_at dksX23_checkRoom_1 4 rfl rfl)
abbrev cX23_add : ByteArray := prog_12_method_18_code
def yX23_add : MethodName := ⟨RX23, "add", "(II)V"⟩
def dkwX23_add_3 : List UInt8 := [180, 0, 32, 164, 0, 11, 42, 42, 180, 0, 46, 182, 0, 83, 177]
abbrev dktX23_add_3 : List UInt8 := dkwX23_add_3 ++ []
def dkwX23_add_2 : List UInt8 := [180, 0, 40, 4, 96, 181, 0, 40, 42, 180, 0, 32, 158, 0, 25, 42, 180, 0, 12, 180, 0, 53, 42]
abbrev dktX23_add_2 : List UInt8 := dkwX23_add_2 ++ dktX23_add_3
def dkwX23_add_1 : List UInt8 := [42, 180, 0, 18, 21, 4, 46, 79, 42, 180, 0, 18, 21, 4, 29, 79, 42, 29, 182, 0, 76, 42, 89]
abbrev dktX23_add_1 : List UInt8 := dkwX23_add_1 ++ dktX23_add_2
def dkwX23_add_0 : List UInt8 := [42, 180, 0, 12, 27, 28, 182, 0, 79, 62, 27, 184, 0, 56, 54, 4, 42, 180, 0, 12, 180, 0, 63, 29]
abbrev dktX23_add_0 : List UInt8 := dkwX23_add_0 ++ dktX23_add_1
theorem dksX23_add_0 : cX23_add.data.toList.drop 0 = dktX23_add_0 := by decide +kernel
theorem dksX23_add_1 : cX23_add.data.toList.drop 24 = dktX23_add_1 := dk_seg dksX23_add_0 24 rfl rfl
theorem dksX23_add_2 : cX23_add.data.toList.drop 47 = dktX23_add_2 := dk_seg dksX23_add_1 23 rfl rfl
theorem dksX23_add_3 : cX23_add.data.toList.drop 70 = dktX23_add_3 := dk_seg dksX23_add_2 23 rfl rfl
theorem dX23_add_0 : decode cX23_add 0 = .ok (.aload_n 0, 1) := dk_42 (dk_at dksX23_add_0 0 rfl rfl)
theorem dX23_add_1 : decode cX23_add 1 = .ok (.getfield 12, 3) := dk_180 0 12 (dk_at dksX23_add_0 1 rfl rfl)
theorem dX23_add_4 : decode cX23_add 4 = .ok (.iload_n 1, 1) := dk_27 (dk_at dksX23_add_0 4 rfl rfl)
theorem dX23_add_5 : decode cX23_add 5 = .ok (.iload_n 2, 1) := dk_28 (dk_at dksX23_add_0 5 rfl rfl)
theorem dX23_add_6 : decode cX23_add 6 = .ok (.invokevirtual 79, 3) := dk_182 0 79 (dk_at dksX23_add_0 6 rfl rfl)
theorem dX23_add_9 : decode cX23_add 9 = .ok (.istore_n 3, 1) := dk_62 (dk_at dksX23_add_0 9 rfl rfl)
theorem dX23_add_10 : decode cX23_add 10 = .ok (.iload_n 1, 1) := dk_27 (dk_at dksX23_add_0 10 rfl rfl)
theorem dX23_add_11 : decode cX23_add 11 = .ok (.invokestatic 56, 3) := dk_184 0 56 (dk_at dksX23_add_0 11 rfl rfl)
theorem dX23_add_14 : decode cX23_add 14 = .ok (.istore 4, 2) := dk_54 4 (dk_at dksX23_add_0 14 rfl rfl)
theorem dX23_add_16 : decode cX23_add 16 = .ok (.aload_n 0, 1) := dk_42 (dk_at dksX23_add_0 16 rfl rfl)
theorem dX23_add_17 : decode cX23_add 17 = .ok (.getfield 12, 3) := dk_180 0 12 (dk_at dksX23_add_0 17 rfl rfl)
theorem dX23_add_20 : decode cX23_add 20 = .ok (.getfield 63, 3) := dk_180 0 63 (dk_at dksX23_add_0 20 rfl rfl)
theorem dX23_add_23 : decode cX23_add 23 = .ok (.iload_n 3, 1) := dk_29 (dk_at dksX23_add_0 23 rfl rfl)
theorem dX23_add_24 : decode cX23_add 24 = .ok (.aload_n 0, 1) := dk_42 (dk_at dksX23_add_1 0 rfl rfl)
theorem dX23_add_25 : decode cX23_add 25 = .ok (.getfield 18, 3) := dk_180 0 18 (dk_at dksX23_add_1 1 rfl rfl)
theorem dX23_add_28 : decode cX23_add 28 = .ok (.iload 4, 2) := dk_21 4 (dk_at dksX23_add_1 4 rfl rfl)
theorem dX23_add_30 : decode cX23_add 30 = .ok (.iaload, 1) := dk_46 (dk_at dksX23_add_1 6 rfl rfl)
theorem dX23_add_31 : decode cX23_add 31 = .ok (.iastore, 1) := dk_79 (dk_at dksX23_add_1 7 rfl rfl)
theorem dX23_add_32 : decode cX23_add 32 = .ok (.aload_n 0, 1) := dk_42 (dk_at dksX23_add_1 8 rfl rfl)
theorem dX23_add_33 : decode cX23_add 33 = .ok (.getfield 18, 3) := dk_180 0 18 (dk_at dksX23_add_1 9 rfl rfl)
theorem dX23_add_36 : decode cX23_add 36 = .ok (.iload 4, 2) := dk_21 4 (dk_at dksX23_add_1 12 rfl rfl)
theorem dX23_add_38 : decode cX23_add 38 = .ok (.iload_n 3, 1) := dk_29 (dk_at dksX23_add_1 14 rfl rfl)
theorem dX23_add_39 : decode cX23_add 39 = .ok (.iastore, 1) := dk_79 (dk_at dksX23_add_1 15 rfl rfl)
theorem dX23_add_40 : decode cX23_add 40 = .ok (.aload_n 0, 1) := dk_42 (dk_at dksX23_add_1 16 rfl rfl)
theorem dX23_add_41 : decode cX23_add 41 = .ok (.iload_n 3, 1) := dk_29 (dk_at dksX23_add_1 17 rfl rfl)
theorem dX23_add_42 : decode cX23_add 42 = .ok (.invokevirtual 76, 3) := dk_182 0 76 (dk_at dksX23_add_1 18 rfl rfl)
theorem dX23_add_45 : decode cX23_add 45 = .ok (.aload_n 0, 1) := dk_42 (dk_at dksX23_add_1 21 rfl rfl)
theorem dX23_add_46 : decode cX23_add 46 = .ok (.dup, 1) := dk_89 (dk_at dksX23_add_1 22 rfl rfl)
theorem dX23_add_47 : decode cX23_add 47 = .ok (.getfield 40, 3) := dk_180 0 40 (dk_at dksX23_add_2 0 rfl rfl)
theorem dX23_add_50 : decode cX23_add 50 = .ok (.iconst 1, 1) := dk_4 (dk_at dksX23_add_2 3 rfl rfl)
theorem dX23_add_51 : decode cX23_add 51 = .ok (.iadd, 1) := dk_96 (dk_at dksX23_add_2 4 rfl rfl)
theorem dX23_add_52 : decode cX23_add 52 = .ok (.putfield 40, 3) := dk_181 0 40 (dk_at dksX23_add_2 5 rfl rfl)
theorem dX23_add_55 : decode cX23_add 55 = .ok (.aload_n 0, 1) := dk_42 (dk_at dksX23_add_2 8 rfl rfl)
theorem dX23_add_56 : decode cX23_add 56 = .ok (.getfield 32, 3) := dk_180 0 32 (dk_at dksX23_add_2 9 rfl rfl)
theorem dX23_add_59 : decode cX23_add 59 = .ok (.ifCond .le 25, 3) := dk_158 0 25 (dk_at dksX23_add_2 12 rfl rfl)
theorem dX23_add_62 : decode cX23_add 62 = .ok (.aload_n 0, 1) := dk_42 (dk_at dksX23_add_2 15 rfl rfl)
theorem dX23_add_63 : decode cX23_add 63 = .ok (.getfield 12, 3) := dk_180 0 12 (dk_at dksX23_add_2 16 rfl rfl)
theorem dX23_add_66 : decode cX23_add 66 = .ok (.getfield 53, 3) := dk_180 0 53 (dk_at dksX23_add_2 19 rfl rfl)
theorem dX23_add_69 : decode cX23_add 69 = .ok (.aload_n 0, 1) := dk_42 (dk_at dksX23_add_2 22 rfl rfl)
theorem dX23_add_70 : decode cX23_add 70 = .ok (.getfield 32, 3) := dk_180 0 32 (dk_at dksX23_add_3 0 rfl rfl)
theorem dX23_add_73 : decode cX23_add 73 = .ok (.if_icmp .le 11, 3) := dk_164 0 11 (dk_at dksX23_add_3 3 rfl rfl)
theorem dX23_add_76 : decode cX23_add 76 = .ok (.aload_n 0, 1) := dk_42 (dk_at dksX23_add_3 6 rfl rfl)
theorem dX23_add_77 : decode cX23_add 77 = .ok (.aload_n 0, 1) := dk_42 (dk_at dksX23_add_3 7 rfl rfl)
theorem dX23_add_78 : decode cX23_add 78 = .ok (.getfield 46, 3) := dk_180 0 46 (dk_at dksX23_add_3 8 rfl rfl)
theorem dX23_add_81 : decode cX23_add 81 = .ok (.invokevirtual 83, 3) := dk_182 0 83 (dk_at dksX23_add_3 11 rfl rfl)
theorem dX23_add_84 : decode cX23_add 84 = .ok (.return_, 1) := dk_177 (dk_at dksX23_add_3 14 rfl rfl)
abbrev cX23_remove : ByteArray := prog_12_method_19_code
def yX23_remove : MethodName := ⟨RX23, "remove", "(I)V"⟩
def dkwX23_remove_4 : List UInt8 := [180, 0, 12, 27, 182, 0, 86, 42, 89, 180, 0, 40, 4, 96, 181, 0, 40, 177]
abbrev dktX23_remove_4 : List UInt8 := dkwX23_remove_4 ++ []
def dkwX23_remove_3 : List UInt8 := [180, 0, 12, 180, 0, 63, 29, 42, 180, 0, 12, 180, 0, 63, 27, 46, 79, 42, 27, 182, 0, 73, 42]
abbrev dktX23_remove_3 : List UInt8 := dkwX23_remove_3 ++ dktX23_remove_4
def dkwX23_remove_2 : List UInt8 := [29, 156, 0, 21, 42, 180, 0, 18, 28, 42, 180, 0, 12, 180, 0, 63, 27, 46, 79, 167, 0, 21, 42]
abbrev dktX23_remove_2 : List UInt8 := dkwX23_remove_2 ++ dktX23_remove_3
def dkwX23_remove_1 : List UInt8 := [21, 4, 27, 159, 0, 21, 21, 4, 62, 42, 180, 0, 12, 180, 0, 63, 21, 4, 46, 54, 4, 167, 255, 235]
abbrev dktX23_remove_1 : List UInt8 := dkwX23_remove_1 ++ dktX23_remove_2
def dkwX23_remove_0 : List UInt8 := [42, 180, 0, 12, 180, 0, 60, 27, 46, 184, 0, 56, 61, 2, 62, 42, 180, 0, 18, 28, 46, 54, 4]
abbrev dktX23_remove_0 : List UInt8 := dkwX23_remove_0 ++ dktX23_remove_1
theorem dksX23_remove_0 : cX23_remove.data.toList.drop 0 = dktX23_remove_0 := by decide +kernel
theorem dksX23_remove_1 : cX23_remove.data.toList.drop 23 = dktX23_remove_1 := dk_seg dksX23_remove_0 23 rfl rfl
theorem dksX23_remove_2 : cX23_remove.data.toList.drop 47 = dktX23_remove_2 := dk_seg dksX23_remove_1 24 rfl rfl
theorem dksX23_remove_3 : cX23_remove.data.toList.drop 70 = dktX23_remove_3 := dk_seg dksX23_remove_2 23 rfl rfl
theorem dksX23_remove_4 : cX23_remove.data.toList.drop 93 = dktX23_remove_4 := dk_seg dksX23_remove_3 23 rfl rfl
theorem dX23_remove_0 : decode cX23_remove 0 = .ok (.aload_n 0, 1) := dk_42 (dk_at dksX23_remove_0 0 rfl rfl)
theorem dX23_remove_1 : decode cX23_remove 1 = .ok (.getfield 12, 3) := dk_180 0 12 (dk_at dksX23_remove_0 1 rfl rfl)
theorem dX23_remove_4 : decode cX23_remove 4 = .ok (.getfield 60, 3) := dk_180 0 60 (dk_at dksX23_remove_0 4 rfl rfl)
theorem dX23_remove_7 : decode cX23_remove 7 = .ok (.iload_n 1, 1) := dk_27 (dk_at dksX23_remove_0 7 rfl rfl)
theorem dX23_remove_8 : decode cX23_remove 8 = .ok (.iaload, 1) := dk_46 (dk_at dksX23_remove_0 8 rfl rfl)
theorem dX23_remove_9 : decode cX23_remove 9 = .ok (.invokestatic 56, 3) := dk_184 0 56 (dk_at dksX23_remove_0 9 rfl rfl)
theorem dX23_remove_12 : decode cX23_remove 12 = .ok (.istore_n 2, 1) := dk_61 (dk_at dksX23_remove_0 12 rfl rfl)
theorem dX23_remove_13 : decode cX23_remove 13 = .ok (.iconst (-1), 1) := dk_2 (dk_at dksX23_remove_0 13 rfl rfl)
theorem dX23_remove_14 : decode cX23_remove 14 = .ok (.istore_n 3, 1) := dk_62 (dk_at dksX23_remove_0 14 rfl rfl)
theorem dX23_remove_15 : decode cX23_remove 15 = .ok (.aload_n 0, 1) := dk_42 (dk_at dksX23_remove_0 15 rfl rfl)
theorem dX23_remove_16 : decode cX23_remove 16 = .ok (.getfield 18, 3) := dk_180 0 18 (dk_at dksX23_remove_0 16 rfl rfl)
theorem dX23_remove_19 : decode cX23_remove 19 = .ok (.iload_n 2, 1) := dk_28 (dk_at dksX23_remove_0 19 rfl rfl)
theorem dX23_remove_20 : decode cX23_remove 20 = .ok (.iaload, 1) := dk_46 (dk_at dksX23_remove_0 20 rfl rfl)
theorem dX23_remove_21 : decode cX23_remove 21 = .ok (.istore 4, 2) := dk_54 4 (dk_at dksX23_remove_0 21 rfl rfl)
theorem dX23_remove_23 : decode cX23_remove 23 = .ok (.iload 4, 2) := dk_21 4 (dk_at dksX23_remove_1 0 rfl rfl)
theorem dX23_remove_25 : decode cX23_remove 25 = .ok (.iload_n 1, 1) := dk_27 (dk_at dksX23_remove_1 2 rfl rfl)
theorem dX23_remove_26 : decode cX23_remove 26 = .ok (.if_icmp .eq 21, 3) := dk_159 0 21 (dk_at dksX23_remove_1 3 rfl rfl)
theorem dX23_remove_29 : decode cX23_remove 29 = .ok (.iload 4, 2) := dk_21 4 (dk_at dksX23_remove_1 6 rfl rfl)
theorem dX23_remove_31 : decode cX23_remove 31 = .ok (.istore_n 3, 1) := dk_62 (dk_at dksX23_remove_1 8 rfl rfl)
theorem dX23_remove_32 : decode cX23_remove 32 = .ok (.aload_n 0, 1) := dk_42 (dk_at dksX23_remove_1 9 rfl rfl)
theorem dX23_remove_33 : decode cX23_remove 33 = .ok (.getfield 12, 3) := dk_180 0 12 (dk_at dksX23_remove_1 10 rfl rfl)
theorem dX23_remove_36 : decode cX23_remove 36 = .ok (.getfield 63, 3) := dk_180 0 63 (dk_at dksX23_remove_1 13 rfl rfl)
theorem dX23_remove_39 : decode cX23_remove 39 = .ok (.iload 4, 2) := dk_21 4 (dk_at dksX23_remove_1 16 rfl rfl)
theorem dX23_remove_41 : decode cX23_remove 41 = .ok (.iaload, 1) := dk_46 (dk_at dksX23_remove_1 18 rfl rfl)
theorem dX23_remove_42 : decode cX23_remove 42 = .ok (.istore 4, 2) := dk_54 4 (dk_at dksX23_remove_1 19 rfl rfl)
theorem dX23_remove_44 : decode cX23_remove 44 = .ok (.goto (-21), 3) := dk_167 255 235 (dk_at dksX23_remove_1 21 rfl rfl)
theorem dX23_remove_47 : decode cX23_remove 47 = .ok (.iload_n 3, 1) := dk_29 (dk_at dksX23_remove_2 0 rfl rfl)
theorem dX23_remove_48 : decode cX23_remove 48 = .ok (.ifCond .ge 21, 3) := dk_156 0 21 (dk_at dksX23_remove_2 1 rfl rfl)
theorem dX23_remove_51 : decode cX23_remove 51 = .ok (.aload_n 0, 1) := dk_42 (dk_at dksX23_remove_2 4 rfl rfl)
theorem dX23_remove_52 : decode cX23_remove 52 = .ok (.getfield 18, 3) := dk_180 0 18 (dk_at dksX23_remove_2 5 rfl rfl)
theorem dX23_remove_55 : decode cX23_remove 55 = .ok (.iload_n 2, 1) := dk_28 (dk_at dksX23_remove_2 8 rfl rfl)
theorem dX23_remove_56 : decode cX23_remove 56 = .ok (.aload_n 0, 1) := dk_42 (dk_at dksX23_remove_2 9 rfl rfl)
theorem dX23_remove_57 : decode cX23_remove 57 = .ok (.getfield 12, 3) := dk_180 0 12 (dk_at dksX23_remove_2 10 rfl rfl)
theorem dX23_remove_60 : decode cX23_remove 60 = .ok (.getfield 63, 3) := dk_180 0 63 (dk_at dksX23_remove_2 13 rfl rfl)
theorem dX23_remove_63 : decode cX23_remove 63 = .ok (.iload_n 1, 1) := dk_27 (dk_at dksX23_remove_2 16 rfl rfl)
theorem dX23_remove_64 : decode cX23_remove 64 = .ok (.iaload, 1) := dk_46 (dk_at dksX23_remove_2 17 rfl rfl)
theorem dX23_remove_65 : decode cX23_remove 65 = .ok (.iastore, 1) := dk_79 (dk_at dksX23_remove_2 18 rfl rfl)
theorem dX23_remove_66 : decode cX23_remove 66 = .ok (.goto 21, 3) := dk_167 0 21 (dk_at dksX23_remove_2 19 rfl rfl)
theorem dX23_remove_69 : decode cX23_remove 69 = .ok (.aload_n 0, 1) := dk_42 (dk_at dksX23_remove_2 22 rfl rfl)
theorem dX23_remove_70 : decode cX23_remove 70 = .ok (.getfield 12, 3) := dk_180 0 12 (dk_at dksX23_remove_3 0 rfl rfl)
theorem dX23_remove_73 : decode cX23_remove 73 = .ok (.getfield 63, 3) := dk_180 0 63 (dk_at dksX23_remove_3 3 rfl rfl)
theorem dX23_remove_76 : decode cX23_remove 76 = .ok (.iload_n 3, 1) := dk_29 (dk_at dksX23_remove_3 6 rfl rfl)
theorem dX23_remove_77 : decode cX23_remove 77 = .ok (.aload_n 0, 1) := dk_42 (dk_at dksX23_remove_3 7 rfl rfl)
theorem dX23_remove_78 : decode cX23_remove 78 = .ok (.getfield 12, 3) := dk_180 0 12 (dk_at dksX23_remove_3 8 rfl rfl)
theorem dX23_remove_81 : decode cX23_remove 81 = .ok (.getfield 63, 3) := dk_180 0 63 (dk_at dksX23_remove_3 11 rfl rfl)
theorem dX23_remove_84 : decode cX23_remove 84 = .ok (.iload_n 1, 1) := dk_27 (dk_at dksX23_remove_3 14 rfl rfl)
theorem dX23_remove_85 : decode cX23_remove 85 = .ok (.iaload, 1) := dk_46 (dk_at dksX23_remove_3 15 rfl rfl)
theorem dX23_remove_86 : decode cX23_remove 86 = .ok (.iastore, 1) := dk_79 (dk_at dksX23_remove_3 16 rfl rfl)
theorem dX23_remove_87 : decode cX23_remove 87 = .ok (.aload_n 0, 1) := dk_42 (dk_at dksX23_remove_3 17 rfl rfl)
theorem dX23_remove_88 : decode cX23_remove 88 = .ok (.iload_n 1, 1) := dk_27 (dk_at dksX23_remove_3 18 rfl rfl)
theorem dX23_remove_89 : decode cX23_remove 89 = .ok (.invokevirtual 73, 3) := dk_182 0 73 (dk_at dksX23_remove_3 19 rfl rfl)
theorem dX23_remove_92 : decode cX23_remove 92 = .ok (.aload_n 0, 1) := dk_42 (dk_at dksX23_remove_3 22 rfl rfl)
theorem dX23_remove_93 : decode cX23_remove 93 = .ok (.getfield 12, 3) := dk_180 0 12 (dk_at dksX23_remove_4 0 rfl rfl)
theorem dX23_remove_96 : decode cX23_remove 96 = .ok (.iload_n 1, 1) := dk_27 (dk_at dksX23_remove_4 3 rfl rfl)
theorem dX23_remove_97 : decode cX23_remove 97 = .ok (.invokevirtual 86, 3) := dk_182 0 86 (dk_at dksX23_remove_4 4 rfl rfl)
theorem dX23_remove_100 : decode cX23_remove 100 = .ok (.aload_n 0, 1) := dk_42 (dk_at dksX23_remove_4 7 rfl rfl)
theorem dX23_remove_101 : decode cX23_remove 101 = .ok (.dup, 1) := dk_89 (dk_at dksX23_remove_4 8 rfl rfl)
theorem dX23_remove_102 : decode cX23_remove 102 = .ok (.getfield 40, 3) := dk_180 0 40 (dk_at dksX23_remove_4 9 rfl rfl)
theorem dX23_remove_105 : decode cX23_remove 105 = .ok (.iconst 1, 1) := dk_4 (dk_at dksX23_remove_4 12 rfl rfl)
theorem dX23_remove_106 : decode cX23_remove 106 = .ok (.iadd, 1) := dk_96 (dk_at dksX23_remove_4 13 rfl rfl)
theorem dX23_remove_107 : decode cX23_remove 107 = .ok (.putfield 40, 3) := dk_181 0 40 (dk_at dksX23_remove_4 14 rfl rfl)
theorem dX23_remove_110 : decode cX23_remove 110 = .ok (.return_, 1) := dk_177 (dk_at dksX23_remove_4 17 rfl rfl)
abbrev cX23_size : ByteArray := prog_12_method_5_code
def yX23_size : MethodName := ⟨RX23, "size", "()I"⟩
def dkwX23_size_0 : List UInt8 := [42, 180, 0, 12, 180, 0, 53, 172]
abbrev dktX23_size_0 : List UInt8 := dkwX23_size_0 ++ []
theorem dksX23_size_0 : cX23_size.data.toList.drop 0 = dktX23_size_0 := by decide +kernel
theorem dX23_size_0 : decode cX23_size 0 = .ok (.aload_n 0, 1) := dk_42 (dk_at dksX23_size_0 0 rfl rfl)
theorem dX23_size_1 : decode cX23_size 1 = .ok (.getfield 12, 3) := dk_180 0 12 (dk_at dksX23_size_0 1 rfl rfl)
theorem dX23_size_4 : decode cX23_size 4 = .ok (.getfield 53, 3) := dk_180 0 53 (dk_at dksX23_size_0 4 rfl rfl)
theorem dX23_size_7 : decode cX23_size 7 = .ok (.ireturn, 1) := dk_172 (dk_at dksX23_size_0 7 rfl rfl)
abbrev cX23_clear : ByteArray := prog_12_method_20_code
def yX23_clear : MethodName := ⟨RX23, "clea\x72", "()V"⟩
def dkwX23_clear_1 : List UInt8 := [177]
abbrev dktX23_clear_1 : List UInt8 := dkwX23_clear_1 ++ []
def dkwX23_clear_0 : List UInt8 := [42, 180, 0, 12, 180, 0, 53, 158, 0, 13, 42, 89, 180, 0, 40, 4, 96, 181, 0, 40, 42, 182, 0, 28]
abbrev dktX23_clear_0 : List UInt8 := dkwX23_clear_0 ++ dktX23_clear_1
theorem dksX23_clear_0 : cX23_clear.data.toList.drop 0 = dktX23_clear_0 := by decide +kernel
theorem dksX23_clear_1 : cX23_clear.data.toList.drop 24 = dktX23_clear_1 := dk_seg dksX23_clear_0 24 rfl rfl
theorem dX23_clear_0 : decode cX23_clear 0 = .ok (.aload_n 0, 1) := dk_42 (dk_at dksX23_clear_0 0 rfl rfl)
theorem dX23_clear_1 : decode cX23_clear 1 = .ok (.getfield 12, 3) := dk_180 0 12 (dk_at dksX23_clear_0 1 rfl rfl)
theorem dX23_clear_4 : decode cX23_clear 4 = .ok (.getfield 53, 3) := dk_180 0 53 (dk_at dksX23_clear_0 4 rfl rfl)
theorem dX23_clear_7 : decode cX23_clear 7 = .ok (.ifCond .le 13, 3) := dk_158 0 13 (dk_at dksX23_clear_0 7 rfl rfl)
theorem dX23_clear_10 : decode cX23_clear 10 = .ok (.aload_n 0, 1) := dk_42 (dk_at dksX23_clear_0 10 rfl rfl)
theorem dX23_clear_11 : decode cX23_clear 11 = .ok (.dup, 1) := dk_89 (dk_at dksX23_clear_0 11 rfl rfl)
theorem dX23_clear_12 : decode cX23_clear 12 = .ok (.getfield 40, 3) := dk_180 0 40 (dk_at dksX23_clear_0 12 rfl rfl)
theorem dX23_clear_15 : decode cX23_clear 15 = .ok (.iconst 1, 1) := dk_4 (dk_at dksX23_clear_0 15 rfl rfl)
theorem dX23_clear_16 : decode cX23_clear 16 = .ok (.iadd, 1) := dk_96 (dk_at dksX23_clear_0 16 rfl rfl)
theorem dX23_clear_17 : decode cX23_clear 17 = .ok (.putfield 40, 3) := dk_181 0 40 (dk_at dksX23_clear_0 17 rfl rfl)
theorem dX23_clear_20 : decode cX23_clear 20 = .ok (.aload_n 0, 1) := dk_42 (dk_at dksX23_clear_0 20 rfl rfl)
theorem dX23_clear_21 : decode cX23_clear 21 = .ok (.invokevirtual 28, 3) := dk_182 0 28 (dk_at dksX23_clear_0 21 rfl rfl)
theorem dX23_clear_24 : decode cX23_clear 24 = .ok (.return_, 1) := dk_177 (dk_at dksX23_clear_1 0 rfl rfl)
abbrev cX23_first : ByteArray := prog_12_method_8_code
def yX23_first : MethodName := ⟨RX23, "first", "()I"⟩
theorem dX23_first_0 : decode cX23_first 0 = .ok (.aload_n 0, 1) := by decide +kernel
theorem dX23_first_1 : decode cX23_first 1 = .ok (.getfield 46, 3) := by decide +kernel
theorem dX23_first_4 : decode cX23_first 4 = .ok (.ireturn, 1) := by decide +kernel
abbrev cX23_next : ByteArray := prog_12_method_10_code
def yX23_next : MethodName := ⟨RX23, "next", "(I)I"⟩
def dkwX23_next_0 : List UInt8 := [42, 180, 0, 25, 27, 46, 172]
abbrev dktX23_next_0 : List UInt8 := dkwX23_next_0 ++ []
theorem dksX23_next_0 : cX23_next.data.toList.drop 0 = dktX23_next_0 := by decide +kernel
theorem dX23_next_0 : decode cX23_next 0 = .ok (.aload_n 0, 1) := dk_42 (dk_at dksX23_next_0 0 rfl rfl)
theorem dX23_next_1 : decode cX23_next 1 = .ok (.getfield 25, 3) := dk_180 0 25 (dk_at dksX23_next_0 1 rfl rfl)
theorem dX23_next_4 : decode cX23_next 4 = .ok (.iload_n 1, 1) := dk_27 (dk_at dksX23_next_0 4 rfl rfl)
theorem dX23_next_5 : decode cX23_next 5 = .ok (.iaload, 1) := dk_46 (dk_at dksX23_next_0 5 rfl rfl)
theorem dX23_next_6 : decode cX23_next 6 = .ok (.ireturn, 1) := dk_172 (dk_at dksX23_next_0 6 rfl rfl)
abbrev cX23_last : ByteArray := prog_12_method_9_code
def yX23_last : MethodName := ⟨RX23, "last", "()I"⟩
theorem dX23_last_0 : decode cX23_last 0 = .ok (.aload_n 0, 1) := by decide +kernel
theorem dX23_last_1 : decode cX23_last 1 = .ok (.getfield 49, 3) := by decide +kernel
theorem dX23_last_4 : decode cX23_last 4 = .ok (.ireturn, 1) := by decide +kernel
abbrev cX23_key : ByteArray := prog_12_method_11_code
def yX23_key : MethodName := ⟨RX23, "key", "(I)I"⟩
def dkwX23_key_0 : List UInt8 := [42, 180, 0, 12, 180, 0, 60, 27, 46, 172]
abbrev dktX23_key_0 : List UInt8 := dkwX23_key_0 ++ []
theorem dksX23_key_0 : cX23_key.data.toList.drop 0 = dktX23_key_0 := by decide +kernel
theorem dX23_key_0 : decode cX23_key 0 = .ok (.aload_n 0, 1) := dk_42 (dk_at dksX23_key_0 0 rfl rfl)
theorem dX23_key_1 : decode cX23_key 1 = .ok (.getfield 12, 3) := dk_180 0 12 (dk_at dksX23_key_0 1 rfl rfl)
theorem dX23_key_4 : decode cX23_key 4 = .ok (.getfield 60, 3) := dk_180 0 60 (dk_at dksX23_key_0 4 rfl rfl)
theorem dX23_key_7 : decode cX23_key 7 = .ok (.iload_n 1, 1) := dk_27 (dk_at dksX23_key_0 7 rfl rfl)
theorem dX23_key_8 : decode cX23_key 8 = .ok (.iaload, 1) := dk_46 (dk_at dksX23_key_0 8 rfl rfl)
theorem dX23_key_9 : decode cX23_key 9 = .ok (.ireturn, 1) := dk_172 (dk_at dksX23_key_0 9 rfl rfl)
abbrev cX23_changes : ByteArray := prog_12_method_6_code
def yX23_changes : MethodName := ⟨RX23, "changes", "()I"⟩
theorem dX23_changes_0 : decode cX23_changes 0 = .ok (.aload_n 0, 1) := by decide +kernel
theorem dX23_changes_1 : decode cX23_changes 1 = .ok (.getfield 40, 3) := by decide +kernel
theorem dX23_changes_4 : decode cX23_changes 4 = .ok (.ireturn, 1) := by decide +kernel
theorem q539 : (Jvm.Cond.initialized "LibraryDesk$LinkedThing") ∈ lw_all := lw_g (lw_at lw_m1 32 rfl) rfl
theorem q1448 : (Jvm.Cond.fieldLinkNest "LibraryDesk$LinkedThing" (60 : Nat) "LibraryDesk$Slots" "key" "[I" "LibraryDesk") ∈ lw_tbl := lw_at lw_m4 221 rfl
theorem q1452 : (Jvm.Cond.fieldLinkNest "LibraryDesk$LinkedThing" (66 : Nat) "LibraryDesk$Slots" "value" "[I" "LibraryDesk") ∈ lw_tbl := lw_at lw_m4 225 rfl
theorem q1456 : (Jvm.Cond.fieldLinkNest "LibraryDesk$LinkedThing" (63 : Nat) "LibraryDesk$Slots" "next" "[I" "LibraryDesk") ∈ lw_tbl := lw_at lw_m4 229 rfl
theorem q1463 : (Jvm.Cond.fieldLinkNest "LibraryDesk$LinkedThing" (53 : Nat) "LibraryDesk$Slots" "size" "I" "LibraryDesk") ∈ lw_tbl := lw_at lw_m4 236 rfl
theorem q1509 : (Jvm.Cond.instantiable "LibraryDesk$LinkedThing" (11 : Nat)) ∈ lw_all := lw_g (lw_at lw_m5 42 rfl) rfl
theorem q1511 : (Jvm.Cond.instanceMethod ({ cls := "LibraryDesk$LinkedThing", name := "<init>", desc := "()V" } : Jvm.MethodName)) ∈ lw_all := lw_g (lw_at lw_m5 44 rfl) rfl
theorem q1512 : (Jvm.Cond.code ({ cls := "LibraryDesk$LinkedThing", name := "<init>", desc := "()V" } : Jvm.MethodName) prog_12_method_1_code (1 : Nat) (Option.none : Option Jvm.ClassFile.FieldType)) ∈ lw_all := lw_g (lw_at lw_m5 45 rfl) rfl
theorem q1513 : (Jvm.Cond.methodLinkNest "LibraryDesk$LinkedThing" (3 : Nat) ({ cls := "LibraryDesk$Maps", name := "<init>", desc := "(I)V" } : Jvm.MethodName) "LibraryDesk") ∈ lw_tbl := lw_at lw_m5 46 rfl
theorem q1514 : (Jvm.Cond.classLink "LibraryDesk$LinkedThing" (9 : Nat) "LibraryDesk$Slots") ∈ lw_all := lw_g (lw_at lw_m5 47 rfl) rfl
theorem q1515 : (Jvm.Cond.methodLinkNest "LibraryDesk$LinkedThing" (11 : Nat) ({ cls := "LibraryDesk$Slots", name := "<init>", desc := "(I)V" } : Jvm.MethodName) "LibraryDesk") ∈ lw_tbl := lw_at lw_m5 48 rfl
theorem q1516 : (Jvm.Cond.fieldLink "LibraryDesk$LinkedThing" (12 : Nat) "LibraryDesk$LinkedThing" "slots" "LLibraryDesk$Slots;") ∈ lw_all := lw_g (lw_at lw_m5 49 rfl) rfl
theorem q1517 : (Jvm.Cond.fieldLink "LibraryDesk$LinkedThing" (18 : Nat) "LibraryDesk$LinkedThing" "heads" "[I") ∈ lw_all := lw_g (lw_at lw_m5 50 rfl) rfl
theorem q1518 : (Jvm.Cond.fieldLink "LibraryDesk$LinkedThing" (22 : Nat) "LibraryDesk$LinkedThing" "before" "[I") ∈ lw_all := lw_g (lw_at lw_m5 51 rfl) rfl
theorem q1519 : (Jvm.Cond.fieldLink "LibraryDesk$LinkedThing" (25 : Nat) "LibraryDesk$LinkedThing" "afte\x72" "[I") ∈ lw_all := lw_g (lw_at lw_m5 52 rfl) rfl
theorem q1520 : (Jvm.Cond.fieldLink "LibraryDesk$LinkedThing" (46 : Nat) "LibraryDesk$LinkedThing" "first" "I") ∈ lw_all := lw_g (lw_at lw_m5 53 rfl) rfl
theorem q1521 : (Jvm.Cond.fieldLink "LibraryDesk$LinkedThing" (49 : Nat) "LibraryDesk$LinkedThing" "last" "I") ∈ lw_all := lw_g (lw_at lw_m5 54 rfl) rfl
theorem q1522 : (Jvm.Cond.fieldLink "LibraryDesk$LinkedThing" (32 : Nat) "LibraryDesk$LinkedThing" "limit" "I") ∈ lw_all := lw_g (lw_at lw_m5 55 rfl) rfl
theorem q1524 : (Jvm.Cond.fieldLink "LibraryDesk$LinkedThing" (36 : Nat) "LibraryDesk$LinkedThing" "byUse" "Z") ∈ lw_all := lw_g (lw_at lw_m5 57 rfl) rfl
theorem q1525 : (Jvm.Cond.fieldLink "LibraryDesk$LinkedThing" (40 : Nat) "LibraryDesk$LinkedThing" "changes" "I") ∈ lw_all := lw_g (lw_at lw_m5 58 rfl) rfl
theorem q1526 : (Jvm.Cond.laysFinal "LibraryDesk$LinkedThing" "LibraryDesk$LinkedThing" "slots" "LLibraryDesk$Slots;") ∈ lw_all := lw_g (lw_at lw_m5 59 rfl) rfl
theorem q1527 : (Jvm.Cond.soleField "LibraryDesk$LinkedThing" "slots") ∈ lw_all := lw_g (lw_at lw_m5 60 rfl) rfl
theorem q1528 : (Jvm.Cond.laysFinal "LibraryDesk$LinkedThing" "LibraryDesk$LinkedThing" "heads" "[I") ∈ lw_all := lw_g (lw_at lw_m5 61 rfl) rfl
theorem q1529 : (Jvm.Cond.soleField "LibraryDesk$LinkedThing" "heads") ∈ lw_all := lw_g (lw_at lw_m5 62 rfl) rfl
theorem q1530 : (Jvm.Cond.laysFinal "LibraryDesk$LinkedThing" "LibraryDesk$LinkedThing" "before" "[I") ∈ lw_all := lw_g (lw_at lw_m5 63 rfl) rfl
theorem q1531 : (Jvm.Cond.soleField "LibraryDesk$LinkedThing" "before") ∈ lw_all := lw_g (lw_at lw_m5 64 rfl) rfl
theorem q1532 : (Jvm.Cond.laysFinal "LibraryDesk$LinkedThing" "LibraryDesk$LinkedThing" "afte\x72" "[I") ∈ lw_all := lw_g (lw_at lw_m5 65 rfl) rfl
theorem q1533 : (Jvm.Cond.soleField "LibraryDesk$LinkedThing" "afte\x72") ∈ lw_all := lw_g (lw_at lw_m5 66 rfl) rfl
theorem q1534 : (Jvm.Cond.lays "LibraryDesk$LinkedThing" "LibraryDesk$LinkedThing" "first" "I") ∈ lw_all := lw_g (lw_at lw_m5 67 rfl) rfl
theorem q1535 : (Jvm.Cond.soleField "LibraryDesk$LinkedThing" "first") ∈ lw_all := lw_g (lw_at lw_m5 68 rfl) rfl
theorem q1536 : (Jvm.Cond.lays "LibraryDesk$LinkedThing" "LibraryDesk$LinkedThing" "last" "I") ∈ lw_all := lw_g (lw_at lw_m5 69 rfl) rfl
theorem q1537 : (Jvm.Cond.soleField "LibraryDesk$LinkedThing" "last") ∈ lw_all := lw_g (lw_at lw_m5 70 rfl) rfl
theorem q1538 : (Jvm.Cond.lays "LibraryDesk$LinkedThing" "LibraryDesk$LinkedThing" "limit" "I") ∈ lw_all := lw_g (lw_at lw_m5 71 rfl) rfl
theorem q1539 : (Jvm.Cond.soleField "LibraryDesk$LinkedThing" "limit") ∈ lw_all := lw_g (lw_at lw_m5 72 rfl) rfl
theorem q1540 : (Jvm.Cond.lays "LibraryDesk$LinkedThing" "LibraryDesk$LinkedThing" "byUse" "Z") ∈ lw_all := lw_g (lw_at lw_m5 73 rfl) rfl
theorem q1541 : (Jvm.Cond.soleField "LibraryDesk$LinkedThing" "byUse") ∈ lw_all := lw_g (lw_at lw_m5 74 rfl) rfl
theorem q1542 : (Jvm.Cond.lays "LibraryDesk$LinkedThing" "LibraryDesk$LinkedThing" "changes" "I") ∈ lw_all := lw_g (lw_at lw_m5 75 rfl) rfl
theorem q1543 : (Jvm.Cond.soleField "LibraryDesk$LinkedThing" "changes") ∈ lw_all := lw_g (lw_at lw_m5 76 rfl) rfl
theorem q1544 : (Jvm.Cond.laysFinal "LibraryDesk$LinkedThing" "LibraryDesk$Thing" "kind" "I") ∈ lw_all := lw_g (lw_at lw_m5 77 rfl) rfl
theorem q1545 : (Jvm.Cond.lays "LibraryDesk$LinkedThing" "LibraryDesk$Thing" "used" "Z") ∈ lw_all := lw_g (lw_at lw_m5 78 rfl) rfl
theorem q1546 : (Jvm.Cond.superclass "LibraryDesk$LinkedThing" "LibraryDesk$Maps") ∈ lw_all := lw_g (lw_at lw_m5 79 rfl) rfl
theorem q1895 : (Jvm.Cond.privateMethod ({ cls := "LibraryDesk$LinkedThing", name := "begin", desc := "(IZ)V" } : Jvm.MethodName)) ∈ lw_tbl := lw_at lw_m6 188 rfl
theorem q1896 : (Jvm.Cond.instanceMethod ({ cls := "LibraryDesk$LinkedThing", name := "begin", desc := "(IZ)V" } : Jvm.MethodName)) ∈ lw_all := lw_g (lw_at lw_m6 189 rfl) rfl
theorem q1897 : (Jvm.Cond.code ({ cls := "LibraryDesk$LinkedThing", name := "begin", desc := "(IZ)V" } : Jvm.MethodName) prog_12_method_2_code (3 : Nat) (Option.none : Option Jvm.ClassFile.FieldType)) ∈ lw_all := lw_g (lw_at lw_m6 190 rfl) rfl
theorem q1898 : (Jvm.Cond.methodLink "LibraryDesk$LinkedThing" (28 : Nat) ({ cls := "LibraryDesk$LinkedThing", name := "empty", desc := "()V" } : Jvm.MethodName)) ∈ lw_all := lw_g (lw_at lw_m6 191 rfl) rfl
theorem q1899 : (Jvm.Cond.privateMethod ({ cls := "LibraryDesk$LinkedThing", name := "empty", desc := "()V" } : Jvm.MethodName)) ∈ lw_tbl := lw_at lw_m6 192 rfl
theorem q1900 : (Jvm.Cond.instanceMethod ({ cls := "LibraryDesk$LinkedThing", name := "empty", desc := "()V" } : Jvm.MethodName)) ∈ lw_all := lw_g (lw_at lw_m6 193 rfl) rfl
theorem q1901 : (Jvm.Cond.code ({ cls := "LibraryDesk$LinkedThing", name := "empty", desc := "()V" } : Jvm.MethodName) prog_12_method_3_code (2 : Nat) (Option.none : Option Jvm.ClassFile.FieldType)) ∈ lw_all := lw_g (lw_at lw_m6 194 rfl) rfl
theorem q1902 : (Jvm.Cond.methodLinkNest "LibraryDesk$LinkedThing" (43 : Nat) ({ cls := "LibraryDesk$Slots", name := "clea\x72", desc := "()V" } : Jvm.MethodName) "LibraryDesk") ∈ lw_tbl := lw_at lw_m6 195 rfl
theorem q2319 : (Jvm.Cond.selects "LibraryDesk$LinkedThing" ({ cls := "LibraryDesk$Maps", name := "kind", desc := "()I" } : Jvm.MethodName) ({ cls := "LibraryDesk$Thing", name := "kind", desc := "()I" } : Jvm.MethodName)) ∈ lw_all := lw_g (lw_at lw_m8 132 rfl) rfl
theorem q2327 : (Jvm.Cond.selects "LibraryDesk$LinkedThing" ({ cls := "LibraryDesk$Maps", name := "put", desc := "(IIZZ)J" } : Jvm.MethodName) ({ cls := "LibraryDesk$Maps", name := "put", desc := "(IIZZ)J" } : Jvm.MethodName)) ∈ lw_all := lw_g (lw_at lw_m8 140 rfl) rfl
theorem q2343 : (Jvm.Cond.selects "LibraryDesk$LinkedThing" ({ cls := "LibraryDesk$Maps", name := "find", desc := "(I)I" } : Jvm.MethodName) ({ cls := "LibraryDesk$LinkedThing", name := "find", desc := "(I)I" } : Jvm.MethodName)) ∈ lw_all := lw_g (lw_at lw_m8 156 rfl) rfl
theorem q2344 : (Jvm.Cond.instanceMethod ({ cls := "LibraryDesk$LinkedThing", name := "find", desc := "(I)I" } : Jvm.MethodName)) ∈ lw_all := lw_g (lw_at lw_m8 157 rfl) rfl
theorem q2345 : (Jvm.Cond.code ({ cls := "LibraryDesk$LinkedThing", name := "find", desc := "(I)I" } : Jvm.MethodName) prog_12_method_7_code (3 : Nat) (Option.some Jvm.ClassFile.FieldType.int)) ∈ lw_all := lw_g (lw_at lw_m8 158 rfl) rfl
theorem q2346 : (Jvm.Cond.methodLink "LibraryDesk$LinkedThing" (56 : Nat) ({ cls := "LibraryDesk$LinkedThing", name := "bin", desc := "(I)I" } : Jvm.MethodName)) ∈ lw_all := lw_g (lw_at lw_m8 159 rfl) rfl
theorem q2347 : (Jvm.Cond.static ({ cls := "LibraryDesk$LinkedThing", name := "bin", desc := "(I)I" } : Jvm.MethodName)) ∈ lw_all := lw_g (lw_at lw_m8 160 rfl) rfl
theorem q2348 : (Jvm.Cond.code ({ cls := "LibraryDesk$LinkedThing", name := "bin", desc := "(I)I" } : Jvm.MethodName) prog_12_method_4_code (2 : Nat) (Option.some Jvm.ClassFile.FieldType.int)) ∈ lw_all := lw_g (lw_at lw_m8 161 rfl) rfl
theorem q2349 : (Jvm.Cond.constant "LibraryDesk$LinkedThing" (52 : Nat) (-1640531527 : Int32)) ∈ lw_all := lw_g (lw_at lw_m8 162 rfl) rfl
theorem q2380 : (Jvm.Cond.selects "LibraryDesk$LinkedThing" ({ cls := "LibraryDesk$Maps", name := "found", desc := "(I)J" } : Jvm.MethodName) ({ cls := "LibraryDesk$Maps", name := "found", desc := "(I)J" } : Jvm.MethodName)) ∈ lw_all := lw_g (lw_at lw_m8 193 rfl) rfl
theorem q2391 : (Jvm.Cond.selects "LibraryDesk$LinkedThing" ({ cls := "LibraryDesk$Maps", name := "value", desc := "(I)I" } : Jvm.MethodName) ({ cls := "LibraryDesk$LinkedThing", name := "value", desc := "(I)I" } : Jvm.MethodName)) ∈ lw_all := lw_g (lw_at lw_m8 204 rfl) rfl
theorem q2392 : (Jvm.Cond.instanceMethod ({ cls := "LibraryDesk$LinkedThing", name := "value", desc := "(I)I" } : Jvm.MethodName)) ∈ lw_all := lw_g (lw_at lw_m8 205 rfl) rfl
theorem q2393 : (Jvm.Cond.code ({ cls := "LibraryDesk$LinkedThing", name := "value", desc := "(I)I" } : Jvm.MethodName) prog_12_method_12_code (2 : Nat) (Option.some Jvm.ClassFile.FieldType.int)) ∈ lw_all := lw_g (lw_at lw_m8 206 rfl) rfl
theorem q2408 : (Jvm.Cond.selects "LibraryDesk$LinkedThing" ({ cls := "LibraryDesk$Maps", name := "setValue", desc := "(II)V" } : Jvm.MethodName) ({ cls := "LibraryDesk$LinkedThing", name := "setValue", desc := "(II)V" } : Jvm.MethodName)) ∈ lw_all := lw_g (lw_at lw_m8 221 rfl) rfl
theorem q2409 : (Jvm.Cond.instanceMethod ({ cls := "LibraryDesk$LinkedThing", name := "setValue", desc := "(II)V" } : Jvm.MethodName)) ∈ lw_all := lw_g (lw_at lw_m8 222 rfl) rfl
theorem q2410 : (Jvm.Cond.code ({ cls := "LibraryDesk$LinkedThing", name := "setValue", desc := "(II)V" } : Jvm.MethodName) prog_12_method_13_code (3 : Nat) (Option.none : Option Jvm.ClassFile.FieldType)) ∈ lw_all := lw_g (lw_at lw_m8 223 rfl) rfl
theorem q2423 : (Jvm.Cond.selects "LibraryDesk$LinkedThing" ({ cls := "LibraryDesk$Maps", name := "use", desc := "(I)V" } : Jvm.MethodName) ({ cls := "LibraryDesk$LinkedThing", name := "use", desc := "(I)V" } : Jvm.MethodName)) ∈ lw_all := lw_g (lw_at lw_m8 236 rfl) rfl
theorem q2424 : (Jvm.Cond.instanceMethod ({ cls := "LibraryDesk$LinkedThing", name := "use", desc := "(I)V" } : Jvm.MethodName)) ∈ lw_all := lw_g (lw_at lw_m8 237 rfl) rfl
theorem q2425 : (Jvm.Cond.code ({ cls := "LibraryDesk$LinkedThing", name := "use", desc := "(I)V" } : Jvm.MethodName) prog_12_method_17_code (2 : Nat) (Option.none : Option Jvm.ClassFile.FieldType)) ∈ lw_all := lw_g (lw_at lw_m8 238 rfl) rfl
theorem q2426 : (Jvm.Cond.methodLink "LibraryDesk$LinkedThing" (73 : Nat) ({ cls := "LibraryDesk$LinkedThing", name := "unlink", desc := "(I)V" } : Jvm.MethodName)) ∈ lw_all := lw_g (lw_at lw_m8 239 rfl) rfl
theorem q2427 : (Jvm.Cond.privateMethod ({ cls := "LibraryDesk$LinkedThing", name := "unlink", desc := "(I)V" } : Jvm.MethodName)) ∈ lw_tbl := lw_at lw_m9 0 rfl
theorem q2428 : (Jvm.Cond.instanceMethod ({ cls := "LibraryDesk$LinkedThing", name := "unlink", desc := "(I)V" } : Jvm.MethodName)) ∈ lw_all := lw_g (lw_at lw_m9 1 rfl) rfl
theorem q2429 : (Jvm.Cond.code ({ cls := "LibraryDesk$LinkedThing", name := "unlink", desc := "(I)V" } : Jvm.MethodName) prog_12_method_16_code (2 : Nat) (Option.none : Option Jvm.ClassFile.FieldType)) ∈ lw_all := lw_g (lw_at lw_m9 2 rfl) rfl
theorem q2430 : (Jvm.Cond.methodLink "LibraryDesk$LinkedThing" (76 : Nat) ({ cls := "LibraryDesk$LinkedThing", name := "link", desc := "(I)V" } : Jvm.MethodName)) ∈ lw_all := lw_g (lw_at lw_m9 3 rfl) rfl
theorem q2431 : (Jvm.Cond.privateMethod ({ cls := "LibraryDesk$LinkedThing", name := "link", desc := "(I)V" } : Jvm.MethodName)) ∈ lw_tbl := lw_at lw_m9 4 rfl
theorem q2432 : (Jvm.Cond.instanceMethod ({ cls := "LibraryDesk$LinkedThing", name := "link", desc := "(I)V" } : Jvm.MethodName)) ∈ lw_all := lw_g (lw_at lw_m9 5 rfl) rfl
theorem q2433 : (Jvm.Cond.code ({ cls := "LibraryDesk$LinkedThing", name := "link", desc := "(I)V" } : Jvm.MethodName) prog_12_method_15_code (2 : Nat) (Option.none : Option Jvm.ClassFile.FieldType)) ∈ lw_all := lw_g (lw_at lw_m9 6 rfl) rfl
theorem q2444 : (Jvm.Cond.selects "LibraryDesk$LinkedThing" ({ cls := "LibraryDesk$Maps", name := "checkRoom", desc := "(I)V" } : Jvm.MethodName) ({ cls := "LibraryDesk$LinkedThing", name := "checkRoom", desc := "(I)V" } : Jvm.MethodName)) ∈ lw_all := lw_g (lw_at lw_m9 17 rfl) rfl
theorem q2445 : (Jvm.Cond.instanceMethod ({ cls := "LibraryDesk$LinkedThing", name := "checkRoom", desc := "(I)V" } : Jvm.MethodName)) ∈ lw_all := lw_g (lw_at lw_m9 18 rfl) rfl
theorem q2446 : (Jvm.Cond.code ({ cls := "LibraryDesk$LinkedThing", name := "checkRoom", desc := "(I)V" } : Jvm.MethodName) prog_12_method_14_code (2 : Nat) (Option.none : Option Jvm.ClassFile.FieldType)) ∈ lw_all := lw_g (lw_at lw_m9 19 rfl) rfl
theorem q2447 : (Jvm.Cond.methodLinkNest "LibraryDesk$LinkedThing" (69 : Nat) ({ cls := "LibraryDesk", name := "state", desc := "(Z)V" } : Jvm.MethodName) "LibraryDesk") ∈ lw_tbl := lw_at lw_m9 20 rfl
theorem q2480 : (Jvm.Cond.selects "LibraryDesk$LinkedThing" ({ cls := "LibraryDesk$Maps", name := "add", desc := "(II)V" } : Jvm.MethodName) ({ cls := "LibraryDesk$LinkedThing", name := "add", desc := "(II)V" } : Jvm.MethodName)) ∈ lw_all := lw_g (lw_at lw_m9 53 rfl) rfl
theorem q2481 : (Jvm.Cond.instanceMethod ({ cls := "LibraryDesk$LinkedThing", name := "add", desc := "(II)V" } : Jvm.MethodName)) ∈ lw_all := lw_g (lw_at lw_m9 54 rfl) rfl
theorem q2482 : (Jvm.Cond.code ({ cls := "LibraryDesk$LinkedThing", name := "add", desc := "(II)V" } : Jvm.MethodName) prog_12_method_18_code (5 : Nat) (Option.none : Option Jvm.ClassFile.FieldType)) ∈ lw_all := lw_g (lw_at lw_m9 55 rfl) rfl
theorem q2483 : (Jvm.Cond.methodLinkNest "LibraryDesk$LinkedThing" (79 : Nat) ({ cls := "LibraryDesk$Slots", name := "take", desc := "(II)I" } : Jvm.MethodName) "LibraryDesk") ∈ lw_tbl := lw_at lw_m9 56 rfl
theorem q2484 : (Jvm.Cond.methodLink "LibraryDesk$LinkedThing" (83 : Nat) ({ cls := "LibraryDesk$LinkedThing", name := "remove", desc := "(I)V" } : Jvm.MethodName)) ∈ lw_all := lw_g (lw_at lw_m9 57 rfl) rfl
theorem q2485 : (Jvm.Cond.instanceMethod ({ cls := "LibraryDesk$LinkedThing", name := "remove", desc := "(I)V" } : Jvm.MethodName)) ∈ lw_all := lw_g (lw_at lw_m9 58 rfl) rfl
theorem q2486 : (Jvm.Cond.selects "LibraryDesk$LinkedThing" ({ cls := "LibraryDesk$LinkedThing", name := "remove", desc := "(I)V" } : Jvm.MethodName) ({ cls := "LibraryDesk$LinkedThing", name := "remove", desc := "(I)V" } : Jvm.MethodName)) ∈ lw_all := lw_g (lw_at lw_m9 59 rfl) rfl
theorem q2487 : (Jvm.Cond.code ({ cls := "LibraryDesk$LinkedThing", name := "remove", desc := "(I)V" } : Jvm.MethodName) prog_12_method_19_code (5 : Nat) (Option.none : Option Jvm.ClassFile.FieldType)) ∈ lw_all := lw_g (lw_at lw_m9 60 rfl) rfl
theorem q2488 : (Jvm.Cond.methodLinkNest "LibraryDesk$LinkedThing" (86 : Nat) ({ cls := "LibraryDesk$Slots", name := "give", desc := "(I)V" } : Jvm.MethodName) "LibraryDesk") ∈ lw_tbl := lw_at lw_m9 61 rfl
theorem q2521 : (Jvm.Cond.selects "LibraryDesk$LinkedThing" ({ cls := "LibraryDesk$Maps", name := "get", desc := "(I)J" } : Jvm.MethodName) ({ cls := "LibraryDesk$Maps", name := "get", desc := "(I)J" } : Jvm.MethodName)) ∈ lw_all := lw_g (lw_at lw_m9 94 rfl) rfl
theorem q2529 : (Jvm.Cond.selects "LibraryDesk$LinkedThing" ({ cls := "LibraryDesk$Maps", name := "drop", desc := "(I)J" } : Jvm.MethodName) ({ cls := "LibraryDesk$Maps", name := "drop", desc := "(I)J" } : Jvm.MethodName)) ∈ lw_all := lw_g (lw_at lw_m9 102 rfl) rfl
theorem q2540 : (Jvm.Cond.selects "LibraryDesk$LinkedThing" ({ cls := "LibraryDesk$Maps", name := "remove", desc := "(I)V" } : Jvm.MethodName) ({ cls := "LibraryDesk$LinkedThing", name := "remove", desc := "(I)V" } : Jvm.MethodName)) ∈ lw_all := lw_g (lw_at lw_m9 113 rfl) rfl
theorem q2569 : (Jvm.Cond.selects "LibraryDesk$LinkedThing" ({ cls := "LibraryDesk$Maps", name := "size", desc := "()I" } : Jvm.MethodName) ({ cls := "LibraryDesk$LinkedThing", name := "size", desc := "()I" } : Jvm.MethodName)) ∈ lw_all := lw_g (lw_at lw_m9 142 rfl) rfl
theorem q2570 : (Jvm.Cond.instanceMethod ({ cls := "LibraryDesk$LinkedThing", name := "size", desc := "()I" } : Jvm.MethodName)) ∈ lw_all := lw_g (lw_at lw_m9 143 rfl) rfl
theorem q2571 : (Jvm.Cond.code ({ cls := "LibraryDesk$LinkedThing", name := "size", desc := "()I" } : Jvm.MethodName) prog_12_method_5_code (1 : Nat) (Option.some Jvm.ClassFile.FieldType.int)) ∈ lw_all := lw_g (lw_at lw_m9 144 rfl) rfl
theorem q2631 : (Jvm.Cond.selects "LibraryDesk$LinkedThing" ({ cls := "LibraryDesk$Maps", name := "clea\x72", desc := "()V" } : Jvm.MethodName) ({ cls := "LibraryDesk$LinkedThing", name := "clea\x72", desc := "()V" } : Jvm.MethodName)) ∈ lw_all := lw_g (lw_at lw_m9 204 rfl) rfl
theorem q2632 : (Jvm.Cond.instanceMethod ({ cls := "LibraryDesk$LinkedThing", name := "clea\x72", desc := "()V" } : Jvm.MethodName)) ∈ lw_all := lw_g (lw_at lw_m9 205 rfl) rfl
theorem q2633 : (Jvm.Cond.code ({ cls := "LibraryDesk$LinkedThing", name := "clea\x72", desc := "()V" } : Jvm.MethodName) prog_12_method_20_code (1 : Nat) (Option.none : Option Jvm.ClassFile.FieldType)) ∈ lw_all := lw_g (lw_at lw_m9 206 rfl) rfl
theorem q2644 : (Jvm.Cond.selects "LibraryDesk$LinkedThing" ({ cls := "LibraryDesk$Maps", name := "more", desc := "(II)J" } : Jvm.MethodName) ({ cls := "LibraryDesk$Maps", name := "more", desc := "(II)J" } : Jvm.MethodName)) ∈ lw_all := lw_g (lw_at lw_m9 217 rfl) rfl
theorem q2652 : (Jvm.Cond.selects "LibraryDesk$LinkedThing" ({ cls := "LibraryDesk$Maps", name := "countValue", desc := "(I)I" } : Jvm.MethodName) ({ cls := "LibraryDesk$Maps", name := "countValue", desc := "(I)I" } : Jvm.MethodName)) ∈ lw_all := lw_g (lw_at lw_m9 225 rfl) rfl
theorem q2666 : (Jvm.Cond.selects "LibraryDesk$LinkedThing" ({ cls := "LibraryDesk$Maps", name := "first", desc := "()I" } : Jvm.MethodName) ({ cls := "LibraryDesk$LinkedThing", name := "first", desc := "()I" } : Jvm.MethodName)) ∈ lw_all := lw_g (lw_at lw_m9 239 rfl) rfl
theorem q2667 : (Jvm.Cond.instanceMethod ({ cls := "LibraryDesk$LinkedThing", name := "first", desc := "()I" } : Jvm.MethodName)) ∈ lw_all := lw_g (lw_at lw_m10 0 rfl) rfl
theorem q2668 : (Jvm.Cond.code ({ cls := "LibraryDesk$LinkedThing", name := "first", desc := "()I" } : Jvm.MethodName) prog_12_method_8_code (1 : Nat) (Option.some Jvm.ClassFile.FieldType.int)) ∈ lw_all := lw_g (lw_at lw_m10 1 rfl) rfl
theorem q2677 : (Jvm.Cond.selects "LibraryDesk$LinkedThing" ({ cls := "LibraryDesk$Maps", name := "next", desc := "(I)I" } : Jvm.MethodName) ({ cls := "LibraryDesk$LinkedThing", name := "next", desc := "(I)I" } : Jvm.MethodName)) ∈ lw_all := lw_g (lw_at lw_m10 10 rfl) rfl
theorem q2678 : (Jvm.Cond.instanceMethod ({ cls := "LibraryDesk$LinkedThing", name := "next", desc := "(I)I" } : Jvm.MethodName)) ∈ lw_all := lw_g (lw_at lw_m10 11 rfl) rfl
theorem q2679 : (Jvm.Cond.code ({ cls := "LibraryDesk$LinkedThing", name := "next", desc := "(I)I" } : Jvm.MethodName) prog_12_method_10_code (2 : Nat) (Option.some Jvm.ClassFile.FieldType.int)) ∈ lw_all := lw_g (lw_at lw_m10 12 rfl) rfl
theorem q2686 : (Jvm.Cond.selects "LibraryDesk$LinkedThing" ({ cls := "LibraryDesk$Maps", name := "end", desc := "(ZZ)J" } : Jvm.MethodName) ({ cls := "LibraryDesk$Maps", name := "end", desc := "(ZZ)J" } : Jvm.MethodName)) ∈ lw_all := lw_g (lw_at lw_m10 19 rfl) rfl
theorem q2698 : (Jvm.Cond.selects "LibraryDesk$LinkedThing" ({ cls := "LibraryDesk$Maps", name := "last", desc := "()I" } : Jvm.MethodName) ({ cls := "LibraryDesk$LinkedThing", name := "last", desc := "()I" } : Jvm.MethodName)) ∈ lw_all := lw_g (lw_at lw_m10 31 rfl) rfl
theorem q2699 : (Jvm.Cond.instanceMethod ({ cls := "LibraryDesk$LinkedThing", name := "last", desc := "()I" } : Jvm.MethodName)) ∈ lw_all := lw_g (lw_at lw_m10 32 rfl) rfl
theorem q2700 : (Jvm.Cond.code ({ cls := "LibraryDesk$LinkedThing", name := "last", desc := "()I" } : Jvm.MethodName) prog_12_method_9_code (1 : Nat) (Option.some Jvm.ClassFile.FieldType.int)) ∈ lw_all := lw_g (lw_at lw_m10 33 rfl) rfl
theorem q2712 : (Jvm.Cond.selects "LibraryDesk$LinkedThing" ({ cls := "LibraryDesk$Maps", name := "key", desc := "(I)I" } : Jvm.MethodName) ({ cls := "LibraryDesk$LinkedThing", name := "key", desc := "(I)I" } : Jvm.MethodName)) ∈ lw_all := lw_g (lw_at lw_m10 45 rfl) rfl
theorem q2713 : (Jvm.Cond.instanceMethod ({ cls := "LibraryDesk$LinkedThing", name := "key", desc := "(I)I" } : Jvm.MethodName)) ∈ lw_all := lw_g (lw_at lw_m10 46 rfl) rfl
theorem q2714 : (Jvm.Cond.code ({ cls := "LibraryDesk$LinkedThing", name := "key", desc := "(I)I" } : Jvm.MethodName) prog_12_method_11_code (2 : Nat) (Option.some Jvm.ClassFile.FieldType.int)) ∈ lw_all := lw_g (lw_at lw_m10 47 rfl) rfl
theorem q2723 : (Jvm.Cond.selects "LibraryDesk$LinkedThing" ({ cls := "LibraryDesk$Maps", name := "hash", desc := "()I" } : Jvm.MethodName) ({ cls := "LibraryDesk$Maps", name := "hash", desc := "()I" } : Jvm.MethodName)) ∈ lw_all := lw_g (lw_at lw_m10 56 rfl) rfl
theorem q2731 : (Jvm.Cond.selects "LibraryDesk$LinkedThing" ({ cls := "LibraryDesk$Maps", name := "same", desc := "(LLibraryDesk$Maps;)I" } : Jvm.MethodName) ({ cls := "LibraryDesk$Maps", name := "same", desc := "(LLibraryDesk$Maps;)I" } : Jvm.MethodName)) ∈ lw_all := lw_g (lw_at lw_m10 64 rfl) rfl
theorem q2846 : (Jvm.Cond.selects "LibraryDesk$LinkedThing" ({ cls := "LibraryDesk$Maps", name := "changes", desc := "()I" } : Jvm.MethodName) ({ cls := "LibraryDesk$LinkedThing", name := "changes", desc := "()I" } : Jvm.MethodName)) ∈ lw_all := lw_g (lw_at lw_m10 179 rfl) rfl
theorem q2847 : (Jvm.Cond.instanceMethod ({ cls := "LibraryDesk$LinkedThing", name := "changes", desc := "()I" } : Jvm.MethodName)) ∈ lw_all := lw_g (lw_at lw_m10 180 rfl) rfl
theorem q2848 : (Jvm.Cond.code ({ cls := "LibraryDesk$LinkedThing", name := "changes", desc := "()I" } : Jvm.MethodName) prog_12_method_6_code (1 : Nat) (Option.some Jvm.ClassFile.FieldType.int)) ∈ lw_all := lw_g (lw_at lw_m10 181 rfl) rfl
theorem q6087 : (Jvm.Cond.selects "LibraryDesk$LinkedThing" ({ cls := "LibraryDesk$Thing", name := "kind", desc := "()I" } : Jvm.MethodName) ({ cls := "LibraryDesk$Thing", name := "kind", desc := "()I" } : Jvm.MethodName)) ∈ lw_all := lw_g (lw_at lw_m24 60 rfl) rfl
theorem q6104 : (Jvm.Cond.castable "LibraryDesk$LinkedThing" "LibraryDesk$Maps") ∈ lw_tbl := lw_at lw_m24 77 rfl
theorem q6131 : (Jvm.Cond.castable "LibraryDesk$LinkedThing" "java/lang/Object") ∈ lw_tbl := lw_at lw_m24 104 rfl
theorem q6156 : (Jvm.Cond.castable "LibraryDesk$LinkedThing" "LibraryDesk$Thing") ∈ lw_tbl := lw_at lw_m24 129 rfl
theorem in_X23 : ∀ w ∈ wsX230, w ∈ lw_all := lw_in wsX230 [1544, 1545, 1526, 1528, 1530, 1532, 1534, 1536, 1538, 1540, 1542] (by decide +kernel) (by decide +kernel)

/-! LibraryDesk$TreeThing -/
set_option maxRecDepth 100000
def RX24 : String := "LibraryDesk$TreeThing"
def TX24 : u_T := fun k => match k with
  | 0 => ("LibraryDesk$Thing", "kind", "I", true)
  | 1 => ("LibraryDesk$Thing", "used", "Z", false)
  | 2 => ("LibraryDesk$TreeThing", "slots", "LLibraryDesk$Slots;", true)
  | 3 => ("LibraryDesk$TreeThing", "left", "[I", true)
  | 4 => ("LibraryDesk$TreeThing", "right", "[I", true)
  | 5 => ("LibraryDesk$TreeThing", "up", "[I", true)
  | 6 => ("LibraryDesk$TreeThing", "red", "[Z", true)
  | 7 => ("LibraryDesk$TreeThing", "root", "I", false)
  | 8 => ("LibraryDesk$TreeThing", "orde\x72", "I", false)
  | _ => ("LibraryDesk$TreeThing", "changes", "I", false)
def tyX24 : Nat → FieldType := fun k => match k with
  | 0 => .int
  | 1 => .boolean
  | 2 => .object "LibraryDesk$Slots"
  | 3 => .array .int
  | 4 => .array .int
  | 5 => .array .int
  | 6 => .array .boolean
  | 7 => .int
  | 8 => .int
  | _ => .int
abbrev wsX240 : List Cond := u_ws RX24 TX24 10
theorem nmX24 : ∀ a, a < 10 → ∀ b, b < 10 → a ≠ b → (TX24 a).2.1 ≠ (TX24 b).2.1 := by decide +kernel
theorem tyX24_ok : ∀ k, k < 10 → parseFieldDescriptor (TX24 k).2.2.1 = some (tyX24 k) := by decide +kernel
abbrev cX24_init : ByteArray := prog_35_method_1_code
def yX24_init : MethodName := ⟨RX24, "<init>", "()V"⟩
def dkwX24_init_2 : List UInt8 := [17, 3, 233, 188, 4, 181, 0, 28, 177]
abbrev dktX24_init_2 : List UInt8 := dkwX24_init_2 ++ []
def dkwX24_init_1 : List UInt8 := [188, 10, 181, 0, 18, 42, 17, 3, 233, 188, 10, 181, 0, 22, 42, 17, 3, 233, 188, 10, 181, 0, 25, 42]
abbrev dktX24_init_1 : List UInt8 := dkwX24_init_1 ++ dktX24_init_2
def dkwX24_init_0 : List UInt8 := [42, 7, 183, 0, 3, 42, 187, 0, 9, 89, 17, 3, 232, 183, 0, 11, 181, 0, 12, 42, 17, 3, 233]
abbrev dktX24_init_0 : List UInt8 := dkwX24_init_0 ++ dktX24_init_1
theorem dksX24_init_0 : cX24_init.data.toList.drop 0 = dktX24_init_0 := by decide +kernel
theorem dksX24_init_1 : cX24_init.data.toList.drop 23 = dktX24_init_1 := dk_seg dksX24_init_0 23 rfl rfl
theorem dksX24_init_2 : cX24_init.data.toList.drop 47 = dktX24_init_2 := dk_seg dksX24_init_1 24 rfl rfl
theorem dX24_init_0 : decode cX24_init 0 = .ok (.aload_n 0, 1) := dk_42 (dk_at dksX24_init_0 0 rfl rfl)
theorem dX24_init_1 : decode cX24_init 1 = .ok (.iconst 4, 1) := dk_7 (dk_at dksX24_init_0 1 rfl rfl)
theorem dX24_init_2 : decode cX24_init 2 = .ok (.invokespecial 3, 3) := dk_183 0 3 (dk_at dksX24_init_0 2 rfl rfl)
theorem dX24_init_5 : decode cX24_init 5 = .ok (.aload_n 0, 1) := dk_42 (dk_at dksX24_init_0 5 rfl rfl)
theorem dX24_init_6 : decode cX24_init 6 = .ok (.new 9, 3) := dk_187 0 9 (dk_at dksX24_init_0 6 rfl rfl)
theorem dX24_init_9 : decode cX24_init 9 = .ok (.dup, 1) := dk_89 (dk_at dksX24_init_0 9 rfl rfl)
theorem dX24_init_10 : decode cX24_init 10 = .ok (.sipush 1000, 3) := dk_17 3 232 (dk_at dksX24_init_0 10 rfl rfl)
theorem dX24_init_13 : decode cX24_init 13 = .ok (.invokespecial 11, 3) := dk_183 0 11 (dk_at dksX24_init_0 13 rfl rfl)
theorem dX24_init_16 : decode cX24_init 16 = .ok (.putfield 12, 3) := dk_181 0 12 (dk_at dksX24_init_0 16 rfl rfl)
theorem dX24_init_19 : decode cX24_init 19 = .ok (.aload_n 0, 1) := dk_42 (dk_at dksX24_init_0 19 rfl rfl)
theorem dX24_init_20 : decode cX24_init 20 = .ok (.sipush 1001, 3) := dk_17 3 233 (dk_at dksX24_init_0 20 rfl rfl)
theorem dX24_init_23 : decode cX24_init 23 = .ok (.newarray .int, 2) := dk_188_10 (dk_at dksX24_init_1 0 rfl rfl)
theorem dX24_init_25 : decode cX24_init 25 = .ok (.putfield 18, 3) := dk_181 0 18 (dk_at dksX24_init_1 2 rfl rfl)
theorem dX24_init_28 : decode cX24_init 28 = .ok (.aload_n 0, 1) := dk_42 (dk_at dksX24_init_1 5 rfl rfl)
theorem dX24_init_29 : decode cX24_init 29 = .ok (.sipush 1001, 3) := dk_17 3 233 (dk_at dksX24_init_1 6 rfl rfl)
theorem dX24_init_32 : decode cX24_init 32 = .ok (.newarray .int, 2) := dk_188_10 (dk_at dksX24_init_1 9 rfl rfl)
theorem dX24_init_34 : decode cX24_init 34 = .ok (.putfield 22, 3) := dk_181 0 22 (dk_at dksX24_init_1 11 rfl rfl)
theorem dX24_init_37 : decode cX24_init 37 = .ok (.aload_n 0, 1) := dk_42 (dk_at dksX24_init_1 14 rfl rfl)
theorem dX24_init_38 : decode cX24_init 38 = .ok (.sipush 1001, 3) := dk_17 3 233 (dk_at dksX24_init_1 15 rfl rfl)
theorem dX24_init_41 : decode cX24_init 41 = .ok (.newarray .int, 2) := dk_188_10 (dk_at dksX24_init_1 18 rfl rfl)
theorem dX24_init_43 : decode cX24_init 43 = .ok (.putfield 25, 3) := dk_181 0 25 (dk_at dksX24_init_1 20 rfl rfl)
theorem dX24_init_46 : decode cX24_init 46 = .ok (.aload_n 0, 1) := dk_42 (dk_at dksX24_init_1 23 rfl rfl)
theorem dX24_init_47 : decode cX24_init 47 = .ok (.sipush 1001, 3) := dk_17 3 233 (dk_at dksX24_init_2 0 rfl rfl)
theorem dX24_init_50 : decode cX24_init 50 = .ok (.newarray .boolean, 2) := dk_188_4 (dk_at dksX24_init_2 3 rfl rfl)
theorem dX24_init_52 : decode cX24_init 52 = .ok (.putfield 28, 3) := dk_181 0 28 (dk_at dksX24_init_2 5 rfl rfl)
theorem dX24_init_55 : decode cX24_init 55 = .ok (.return_, 1) := dk_177 (dk_at dksX24_init_2 8 rfl rfl)
abbrev cX24_begin : ByteArray := prog_35_method_2_code
def yX24_begin : MethodName := ⟨RX24, "begin", "(I)V"⟩
def dkwX24_begin_1 : List UInt8 := [27, 181, 0, 40, 42, 3, 181, 0, 43, 177]
abbrev dktX24_begin_1 : List UInt8 := dkwX24_begin_1 ++ []
def dkwX24_begin_0 : List UInt8 := [42, 180, 0, 12, 182, 0, 32, 42, 17, 3, 232, 181, 0, 36, 42, 180, 0, 28, 17, 3, 232, 3, 84, 42]
abbrev dktX24_begin_0 : List UInt8 := dkwX24_begin_0 ++ dktX24_begin_1
theorem dksX24_begin_0 : cX24_begin.data.toList.drop 0 = dktX24_begin_0 := by decide +kernel
theorem dksX24_begin_1 : cX24_begin.data.toList.drop 24 = dktX24_begin_1 := dk_seg dksX24_begin_0 24 rfl rfl
theorem dX24_begin_0 : decode cX24_begin 0 = .ok (.aload_n 0, 1) := dk_42 (dk_at dksX24_begin_0 0 rfl rfl)
theorem dX24_begin_1 : decode cX24_begin 1 = .ok (.getfield 12, 3) := dk_180 0 12 (dk_at dksX24_begin_0 1 rfl rfl)
theorem dX24_begin_4 : decode cX24_begin 4 = .ok (.invokevirtual 32, 3) := dk_182 0 32 (dk_at dksX24_begin_0 4 rfl rfl)
theorem dX24_begin_7 : decode cX24_begin 7 = .ok (.aload_n 0, 1) := dk_42 (dk_at dksX24_begin_0 7 rfl rfl)
theorem dX24_begin_8 : decode cX24_begin 8 = .ok (.sipush 1000, 3) := dk_17 3 232 (dk_at dksX24_begin_0 8 rfl rfl)
theorem dX24_begin_11 : decode cX24_begin 11 = .ok (.putfield 36, 3) := dk_181 0 36 (dk_at dksX24_begin_0 11 rfl rfl)
theorem dX24_begin_14 : decode cX24_begin 14 = .ok (.aload_n 0, 1) := dk_42 (dk_at dksX24_begin_0 14 rfl rfl)
theorem dX24_begin_15 : decode cX24_begin 15 = .ok (.getfield 28, 3) := dk_180 0 28 (dk_at dksX24_begin_0 15 rfl rfl)
theorem dX24_begin_18 : decode cX24_begin 18 = .ok (.sipush 1000, 3) := dk_17 3 232 (dk_at dksX24_begin_0 18 rfl rfl)
theorem dX24_begin_21 : decode cX24_begin 21 = .ok (.iconst 0, 1) := dk_3 (dk_at dksX24_begin_0 21 rfl rfl)
theorem dX24_begin_22 : decode cX24_begin 22 = .ok (.bastore, 1) := dk_84 (dk_at dksX24_begin_0 22 rfl rfl)
theorem dX24_begin_23 : decode cX24_begin 23 = .ok (.aload_n 0, 1) := dk_42 (dk_at dksX24_begin_0 23 rfl rfl)
theorem dX24_begin_24 : decode cX24_begin 24 = .ok (.iload_n 1, 1) := dk_27 (dk_at dksX24_begin_1 0 rfl rfl)
theorem dX24_begin_25 : decode cX24_begin 25 = .ok (.putfield 40, 3) := dk_181 0 40 (dk_at dksX24_begin_1 1 rfl rfl)
theorem dX24_begin_28 : decode cX24_begin 28 = .ok (.aload_n 0, 1) := dk_42 (dk_at dksX24_begin_1 4 rfl rfl)
theorem dX24_begin_29 : decode cX24_begin 29 = .ok (.iconst 0, 1) := dk_3 (dk_at dksX24_begin_1 5 rfl rfl)
theorem dX24_begin_30 : decode cX24_begin 30 = .ok (.putfield 43, 3) := dk_181 0 43 (dk_at dksX24_begin_1 6 rfl rfl)
theorem dX24_begin_33 : decode cX24_begin 33 = .ok (.return_, 1) := dk_177 (dk_at dksX24_begin_1 9 rfl rfl)
abbrev cX24_find : ByteArray := prog_35_method_7_code
def yX24_find : MethodName := ⟨RX24, "find", "(I)I"⟩
def dkwX24_find_2 : List UInt8 := [180, 0, 22, 28, 46, 61, 167, 255, 208, 2, 172]
abbrev dktX24_find_2 : List UInt8 := dkwX24_find_2 ++ []
def dkwX24_find_1 : List UInt8 := [182, 0, 58, 62, 29, 154, 0, 5, 28, 172, 29, 156, 0, 12, 42, 180, 0, 18, 28, 46, 167, 0, 9, 42]
abbrev dktX24_find_1 : List UInt8 := dkwX24_find_1 ++ dktX24_find_2
def dkwX24_find_0 : List UInt8 := [42, 180, 0, 36, 61, 28, 17, 3, 232, 159, 0, 47, 42, 27, 42, 180, 0, 12, 180, 0, 55, 28, 46]
abbrev dktX24_find_0 : List UInt8 := dkwX24_find_0 ++ dktX24_find_1
theorem dksX24_find_0 : cX24_find.data.toList.drop 0 = dktX24_find_0 := by decide +kernel
theorem dksX24_find_1 : cX24_find.data.toList.drop 23 = dktX24_find_1 := dk_seg dksX24_find_0 23 rfl rfl
theorem dksX24_find_2 : cX24_find.data.toList.drop 47 = dktX24_find_2 := dk_seg dksX24_find_1 24 rfl rfl
theorem dX24_find_0 : decode cX24_find 0 = .ok (.aload_n 0, 1) := dk_42 (dk_at dksX24_find_0 0 rfl rfl)
theorem dX24_find_1 : decode cX24_find 1 = .ok (.getfield 36, 3) := dk_180 0 36 (dk_at dksX24_find_0 1 rfl rfl)
theorem dX24_find_4 : decode cX24_find 4 = .ok (.istore_n 2, 1) := dk_61 (dk_at dksX24_find_0 4 rfl rfl)
theorem dX24_find_5 : decode cX24_find 5 = .ok (.iload_n 2, 1) := dk_28 (dk_at dksX24_find_0 5 rfl rfl)
theorem dX24_find_6 : decode cX24_find 6 = .ok (.sipush 1000, 3) := dk_17 3 232 (dk_at dksX24_find_0 6 rfl rfl)
theorem dX24_find_9 : decode cX24_find 9 = .ok (.if_icmp .eq 47, 3) := dk_159 0 47 (dk_at dksX24_find_0 9 rfl rfl)
theorem dX24_find_12 : decode cX24_find 12 = .ok (.aload_n 0, 1) := dk_42 (dk_at dksX24_find_0 12 rfl rfl)
theorem dX24_find_13 : decode cX24_find 13 = .ok (.iload_n 1, 1) := dk_27 (dk_at dksX24_find_0 13 rfl rfl)
theorem dX24_find_14 : decode cX24_find 14 = .ok (.aload_n 0, 1) := dk_42 (dk_at dksX24_find_0 14 rfl rfl)
theorem dX24_find_15 : decode cX24_find 15 = .ok (.getfield 12, 3) := dk_180 0 12 (dk_at dksX24_find_0 15 rfl rfl)
theorem dX24_find_18 : decode cX24_find 18 = .ok (.getfield 55, 3) := dk_180 0 55 (dk_at dksX24_find_0 18 rfl rfl)
theorem dX24_find_21 : decode cX24_find 21 = .ok (.iload_n 2, 1) := dk_28 (dk_at dksX24_find_0 21 rfl rfl)
theorem dX24_find_22 : decode cX24_find 22 = .ok (.iaload, 1) := dk_46 (dk_at dksX24_find_0 22 rfl rfl)
theorem dX24_find_23 : decode cX24_find 23 = .ok (.invokevirtual 58, 3) := dk_182 0 58 (dk_at dksX24_find_1 0 rfl rfl)
theorem dX24_find_26 : decode cX24_find 26 = .ok (.istore_n 3, 1) := dk_62 (dk_at dksX24_find_1 3 rfl rfl)
theorem dX24_find_27 : decode cX24_find 27 = .ok (.iload_n 3, 1) := dk_29 (dk_at dksX24_find_1 4 rfl rfl)
theorem dX24_find_28 : decode cX24_find 28 = .ok (.ifCond .ne 5, 3) := dk_154 0 5 (dk_at dksX24_find_1 5 rfl rfl)
theorem dX24_find_31 : decode cX24_find 31 = .ok (.iload_n 2, 1) := dk_28 (dk_at dksX24_find_1 8 rfl rfl)
theorem dX24_find_32 : decode cX24_find 32 = .ok (.ireturn, 1) := dk_172 (dk_at dksX24_find_1 9 rfl rfl)
theorem dX24_find_33 : decode cX24_find 33 = .ok (.iload_n 3, 1) := dk_29 (dk_at dksX24_find_1 10 rfl rfl)
theorem dX24_find_34 : decode cX24_find 34 = .ok (.ifCond .ge 12, 3) := dk_156 0 12 (dk_at dksX24_find_1 11 rfl rfl)
theorem dX24_find_37 : decode cX24_find 37 = .ok (.aload_n 0, 1) := dk_42 (dk_at dksX24_find_1 14 rfl rfl)
theorem dX24_find_38 : decode cX24_find 38 = .ok (.getfield 18, 3) := dk_180 0 18 (dk_at dksX24_find_1 15 rfl rfl)
theorem dX24_find_41 : decode cX24_find 41 = .ok (.iload_n 2, 1) := dk_28 (dk_at dksX24_find_1 18 rfl rfl)
theorem dX24_find_42 : decode cX24_find 42 = .ok (.iaload, 1) := dk_46 (dk_at dksX24_find_1 19 rfl rfl)
theorem dX24_find_43 : decode cX24_find 43 = .ok (.goto 9, 3) := dk_167 0 9 (dk_at dksX24_find_1 20 rfl rfl)
theorem dX24_find_46 : decode cX24_find 46 = .ok (.aload_n 0, 1) := dk_42 (dk_at dksX24_find_1 23 rfl rfl)
theorem dX24_find_47 : decode cX24_find 47 = .ok (.getfield 22, 3) := dk_180 0 22 (dk_at dksX24_find_2 0 rfl rfl)
theorem dX24_find_50 : decode cX24_find 50 = .ok (.iload_n 2, 1) := dk_28 (dk_at dksX24_find_2 3 rfl rfl)
theorem dX24_find_51 : decode cX24_find 51 = .ok (.iaload, 1) := dk_46 (dk_at dksX24_find_2 4 rfl rfl)
theorem dX24_find_52 : decode cX24_find 52 = .ok (.istore_n 2, 1) := dk_61 (dk_at dksX24_find_2 5 rfl rfl)
theorem dX24_find_53 : decode cX24_find 53 = .ok (.goto (-48), 3) := dk_167 255 208 (dk_at dksX24_find_2 6 rfl rfl)
theorem dX24_find_56 : decode cX24_find 56 = .ok (.iconst (-1), 1) := dk_2 (dk_at dksX24_find_2 9 rfl rfl)
theorem dX24_find_57 : decode cX24_find 57 = .ok (.ireturn, 1) := dk_172 (dk_at dksX24_find_2 10 rfl rfl)
abbrev cX24_compare : ByteArray := prog_35_method_3_code
def yX24_compare : MethodName := ⟨RX24, "compare", "(II)I"⟩
def dkwX24_compare_0 : List UInt8 := [42, 180, 0, 40, 27, 28, 184, 0, 46, 172]
abbrev dktX24_compare_0 : List UInt8 := dkwX24_compare_0 ++ []
theorem dksX24_compare_0 : cX24_compare.data.toList.drop 0 = dktX24_compare_0 := by decide +kernel
theorem dX24_compare_0 : decode cX24_compare 0 = .ok (.aload_n 0, 1) := dk_42 (dk_at dksX24_compare_0 0 rfl rfl)
theorem dX24_compare_1 : decode cX24_compare 1 = .ok (.getfield 40, 3) := dk_180 0 40 (dk_at dksX24_compare_0 1 rfl rfl)
theorem dX24_compare_4 : decode cX24_compare 4 = .ok (.iload_n 1, 1) := dk_27 (dk_at dksX24_compare_0 4 rfl rfl)
theorem dX24_compare_5 : decode cX24_compare 5 = .ok (.iload_n 2, 1) := dk_28 (dk_at dksX24_compare_0 5 rfl rfl)
theorem dX24_compare_6 : decode cX24_compare 6 = .ok (.invokestatic 46, 3) := dk_184 0 46 (dk_at dksX24_compare_0 6 rfl rfl)
theorem dX24_compare_9 : decode cX24_compare 9 = .ok (.ireturn, 1) := dk_172 (dk_at dksX24_compare_0 9 rfl rfl)
abbrev cX24_key : ByteArray := prog_35_method_14_code
def yX24_key : MethodName := ⟨RX24, "key", "(I)I"⟩
def dkwX24_key_0 : List UInt8 := [42, 180, 0, 12, 180, 0, 55, 27, 46, 172]
abbrev dktX24_key_0 : List UInt8 := dkwX24_key_0 ++ []
theorem dksX24_key_0 : cX24_key.data.toList.drop 0 = dktX24_key_0 := by decide +kernel
theorem dX24_key_0 : decode cX24_key 0 = .ok (.aload_n 0, 1) := dk_42 (dk_at dksX24_key_0 0 rfl rfl)
theorem dX24_key_1 : decode cX24_key 1 = .ok (.getfield 12, 3) := dk_180 0 12 (dk_at dksX24_key_0 1 rfl rfl)
theorem dX24_key_4 : decode cX24_key 4 = .ok (.getfield 55, 3) := dk_180 0 55 (dk_at dksX24_key_0 4 rfl rfl)
theorem dX24_key_7 : decode cX24_key 7 = .ok (.iload_n 1, 1) := dk_27 (dk_at dksX24_key_0 7 rfl rfl)
theorem dX24_key_8 : decode cX24_key 8 = .ok (.iaload, 1) := dk_46 (dk_at dksX24_key_0 8 rfl rfl)
theorem dX24_key_9 : decode cX24_key 9 = .ok (.ireturn, 1) := dk_172 (dk_at dksX24_key_0 9 rfl rfl)
abbrev cX24_value : ByteArray := prog_35_method_15_code
def yX24_value : MethodName := ⟨RX24, "value", "(I)I"⟩
def dkwX24_value_0 : List UInt8 := [42, 180, 0, 12, 180, 0, 71, 27, 46, 172]
abbrev dktX24_value_0 : List UInt8 := dkwX24_value_0 ++ []
theorem dksX24_value_0 : cX24_value.data.toList.drop 0 = dktX24_value_0 := by decide +kernel
theorem dX24_value_0 : decode cX24_value 0 = .ok (.aload_n 0, 1) := dk_42 (dk_at dksX24_value_0 0 rfl rfl)
theorem dX24_value_1 : decode cX24_value 1 = .ok (.getfield 12, 3) := dk_180 0 12 (dk_at dksX24_value_0 1 rfl rfl)
theorem dX24_value_4 : decode cX24_value 4 = .ok (.getfield 71, 3) := dk_180 0 71 (dk_at dksX24_value_0 4 rfl rfl)
theorem dX24_value_7 : decode cX24_value 7 = .ok (.iload_n 1, 1) := dk_27 (dk_at dksX24_value_0 7 rfl rfl)
theorem dX24_value_8 : decode cX24_value 8 = .ok (.iaload, 1) := dk_46 (dk_at dksX24_value_0 8 rfl rfl)
theorem dX24_value_9 : decode cX24_value 9 = .ok (.ireturn, 1) := dk_172 (dk_at dksX24_value_0 9 rfl rfl)
abbrev cX24_setValue : ByteArray := prog_35_method_16_code
def yX24_setValue : MethodName := ⟨RX24, "setValue", "(II)V"⟩
def dkwX24_setValue_0 : List UInt8 := [42, 180, 0, 12, 180, 0, 71, 27, 28, 79, 177]
abbrev dktX24_setValue_0 : List UInt8 := dkwX24_setValue_0 ++ []
theorem dksX24_setValue_0 : cX24_setValue.data.toList.drop 0 = dktX24_setValue_0 := by decide +kernel
theorem dX24_setValue_0 : decode cX24_setValue 0 = .ok (.aload_n 0, 1) := dk_42 (dk_at dksX24_setValue_0 0 rfl rfl)
theorem dX24_setValue_1 : decode cX24_setValue 1 = .ok (.getfield 12, 3) := dk_180 0 12 (dk_at dksX24_setValue_0 1 rfl rfl)
theorem dX24_setValue_4 : decode cX24_setValue 4 = .ok (.getfield 71, 3) := dk_180 0 71 (dk_at dksX24_setValue_0 4 rfl rfl)
theorem dX24_setValue_7 : decode cX24_setValue 7 = .ok (.iload_n 1, 1) := dk_27 (dk_at dksX24_setValue_0 7 rfl rfl)
theorem dX24_setValue_8 : decode cX24_setValue 8 = .ok (.iload_n 2, 1) := dk_28 (dk_at dksX24_setValue_0 8 rfl rfl)
theorem dX24_setValue_9 : decode cX24_setValue 9 = .ok (.iastore, 1) := dk_79 (dk_at dksX24_setValue_0 9 rfl rfl)
theorem dX24_setValue_10 : decode cX24_setValue 10 = .ok (.return_, 1) := dk_177 (dk_at dksX24_setValue_0 10 rfl rfl)
abbrev cX24_checkRoom : ByteArray := prog_35_method_17_code
def yX24_checkRoom : MethodName := ⟨RX24, "checkRoom", "(I)V"⟩
def dkwX24_checkRoom_0 : List UInt8 := [42, 180, 0, 12, 180, 0, 52, 17, 3, 232, 162, 0, 7, 4, 167, 0, 4, 3, 184, 0, 74, 177]
abbrev dktX24_checkRoom_0 : List UInt8 := dkwX24_checkRoom_0 ++ []
theorem dksX24_checkRoom_0 : cX24_checkRoom.data.toList.drop 0 = dktX24_checkRoom_0 := by decide +kernel
theorem dX24_checkRoom_0 : decode cX24_checkRoom 0 = .ok (.aload_n 0, 1) := dk_42 (dk_at dksX24_checkRoom_0 0 rfl rfl)
theorem dX24_checkRoom_1 : decode cX24_checkRoom 1 = .ok (.getfield 12, 3) := dk_180 0 12 (dk_at dksX24_checkRoom_0 1 rfl rfl)
theorem dX24_checkRoom_4 : decode cX24_checkRoom 4 = .ok (.getfield 52, 3) := dk_180 0 52 (dk_at dksX24_checkRoom_0 4 rfl rfl)
theorem dX24_checkRoom_7 : decode cX24_checkRoom 7 = .ok (.sipush 1000, 3) := dk_17 3 232 (dk_at dksX24_checkRoom_0 7 rfl rfl)
theorem dX24_checkRoom_10 : decode cX24_checkRoom 10 = .ok (.if_icmp .ge 7, 3) := dk_162 0 7 (dk_at dksX24_checkRoom_0 10 rfl rfl)
theorem dX24_checkRoom_13 : decode cX24_checkRoom 13 = .ok (.iconst 1, 1) := dk_4 (dk_at dksX24_checkRoom_0 13 rfl rfl)
theorem dX24_checkRoom_14 : decode cX24_checkRoom 14 = .ok (.goto 4, 3) := dk_167 0 4 (dk_at dksX24_checkRoom_0 14 rfl rfl)
theorem dX24_checkRoom_17 : decode cX24_checkRoom 17 = .ok (.iconst 0, 1) := dk_3 (dk_at dksX24_checkRoom_0 17 rfl rfl)
theorem dX24_checkRoom_18 : decode cX24_checkRoom 18 = .ok (.invokestatic 74, 3) := dk_184 0 74 (dk_at dksX24_checkRoom_0 18 rfl rfl)
theorem dX24_checkRoom_21 : decode cX24_checkRoom 21 = .ok (.return_, 1) := dk_177 (dk_at dksX24_checkRoom_0 21 rfl rfl)
abbrev cX24_add : ByteArray := prog_35_method_23_code
def yX24_add : MethodName := ⟨RX24, "add", "(II)V"⟩
def dkwX24_add_7 : List UInt8 := [42, 89, 180, 0, 43, 4, 96, 181, 0, 43, 177]
abbrev dktX24_add_7 : List UInt8 := dkwX24_add_7 ++ []
def dkwX24_add_6 : List UInt8 := [42, 180, 0, 18, 21, 4, 29, 79, 167, 0, 11, 42, 180, 0, 22, 21, 4, 29, 79, 42, 29, 182, 0, 85]
abbrev dktX24_add_6 : List UInt8 := dkwX24_add_6 ++ dktX24_add_7
def dkwX24_add_5 : List UInt8 := [181, 0, 36, 167, 0, 40, 42, 27, 42, 180, 0, 12, 180, 0, 55, 21, 4, 46, 182, 0, 58, 156, 0, 14]
abbrev dktX24_add_5 : List UInt8 := dkwX24_add_5 ++ dktX24_add_6
def dkwX24_add_4 : List UInt8 := [180, 0, 25, 29, 21, 4, 79, 42, 180, 0, 28, 29, 4, 84, 21, 4, 17, 3, 232, 160, 0, 11, 42, 29]
abbrev dktX24_add_4 : List UInt8 := dkwX24_add_4 ++ dktX24_add_5
def dkwX24_add_3 : List UInt8 := [54, 5, 167, 255, 207, 42, 180, 0, 18, 29, 17, 3, 232, 79, 42, 180, 0, 22, 29, 17, 3, 232, 79, 42]
abbrev dktX24_add_3 : List UInt8 := dkwX24_add_3 ++ dktX24_add_4
def dkwX24_add_2 : List UInt8 := [182, 0, 58, 156, 0, 13, 42, 180, 0, 18, 21, 5, 46, 167, 0, 10, 42, 180, 0, 22, 21, 5, 46]
abbrev dktX24_add_2 : List UInt8 := dkwX24_add_2 ++ dktX24_add_3
def dkwX24_add_1 : List UInt8 := [17, 3, 232, 159, 0, 47, 21, 5, 54, 4, 42, 27, 42, 180, 0, 12, 180, 0, 55, 21, 5, 46]
abbrev dktX24_add_1 : List UInt8 := dkwX24_add_1 ++ dktX24_add_2
def dkwX24_add_0 : List UInt8 := [42, 180, 0, 12, 27, 28, 182, 0, 82, 62, 17, 3, 232, 54, 4, 42, 180, 0, 36, 54, 5, 21, 5]
abbrev dktX24_add_0 : List UInt8 := dkwX24_add_0 ++ dktX24_add_1
theorem dksX24_add_0 : cX24_add.data.toList.drop 0 = dktX24_add_0 := by decide +kernel
theorem dksX24_add_1 : cX24_add.data.toList.drop 23 = dktX24_add_1 := dk_seg dksX24_add_0 23 rfl rfl
theorem dksX24_add_2 : cX24_add.data.toList.drop 45 = dktX24_add_2 := dk_seg dksX24_add_1 22 rfl rfl
theorem dksX24_add_3 : cX24_add.data.toList.drop 68 = dktX24_add_3 := dk_seg dksX24_add_2 23 rfl rfl
theorem dksX24_add_4 : cX24_add.data.toList.drop 92 = dktX24_add_4 := dk_seg dksX24_add_3 24 rfl rfl
theorem dksX24_add_5 : cX24_add.data.toList.drop 116 = dktX24_add_5 := dk_seg dksX24_add_4 24 rfl rfl
theorem dksX24_add_6 : cX24_add.data.toList.drop 140 = dktX24_add_6 := dk_seg dksX24_add_5 24 rfl rfl
theorem dksX24_add_7 : cX24_add.data.toList.drop 164 = dktX24_add_7 := dk_seg dksX24_add_6 24 rfl rfl
theorem dX24_add_0 : decode cX24_add 0 = .ok (.aload_n 0, 1) := dk_42 (dk_at dksX24_add_0 0 rfl rfl)
theorem dX24_add_1 : decode cX24_add 1 = .ok (.getfield 12, 3) := dk_180 0 12 (dk_at dksX24_add_0 1 rfl rfl)
theorem dX24_add_4 : decode cX24_add 4 = .ok (.iload_n 1, 1) := dk_27 (dk_at dksX24_add_0 4 rfl rfl)
theorem dX24_add_5 : decode cX24_add 5 = .ok (.iload_n 2, 1) := dk_28 (dk_at dksX24_add_0 5 rfl rfl)
theorem dX24_add_6 : decode cX24_add 6 = .ok (.invokevirtual 82, 3) := dk_182 0 82 (dk_at dksX24_add_0 6 rfl rfl)
theorem dX24_add_9 : decode cX24_add 9 = .ok (.istore_n 3, 1) := dk_62 (dk_at dksX24_add_0 9 rfl rfl)
theorem dX24_add_10 : decode cX24_add 10 = .ok (.sipush 1000, 3) := dk_17 3 232 (dk_at dksX24_add_0 10 rfl rfl)
theorem dX24_add_13 : decode cX24_add 13 = .ok (.istore 4, 2) := dk_54 4 (dk_at dksX24_add_0 13 rfl rfl)
theorem dX24_add_15 : decode cX24_add 15 = .ok (.aload_n 0, 1) := dk_42 (dk_at dksX24_add_0 15 rfl rfl)
theorem dX24_add_16 : decode cX24_add 16 = .ok (.getfield 36, 3) := dk_180 0 36 (dk_at dksX24_add_0 16 rfl rfl)
theorem dX24_add_19 : decode cX24_add 19 = .ok (.istore 5, 2) := dk_54 5 (dk_at dksX24_add_0 19 rfl rfl)
theorem dX24_add_21 : decode cX24_add 21 = .ok (.iload 5, 2) := dk_21 5 (dk_at dksX24_add_0 21 rfl rfl)
theorem dX24_add_23 : decode cX24_add 23 = .ok (.sipush 1000, 3) := dk_17 3 232 (dk_at dksX24_add_1 0 rfl rfl)
theorem dX24_add_26 : decode cX24_add 26 = .ok (.if_icmp .eq 47, 3) := dk_159 0 47 (dk_at dksX24_add_1 3 rfl rfl)
theorem dX24_add_29 : decode cX24_add 29 = .ok (.iload 5, 2) := dk_21 5 (dk_at dksX24_add_1 6 rfl rfl)
theorem dX24_add_31 : decode cX24_add 31 = .ok (.istore 4, 2) := dk_54 4 (dk_at dksX24_add_1 8 rfl rfl)
theorem dX24_add_33 : decode cX24_add 33 = .ok (.aload_n 0, 1) := dk_42 (dk_at dksX24_add_1 10 rfl rfl)
theorem dX24_add_34 : decode cX24_add 34 = .ok (.iload_n 1, 1) := dk_27 (dk_at dksX24_add_1 11 rfl rfl)
theorem dX24_add_35 : decode cX24_add 35 = .ok (.aload_n 0, 1) := dk_42 (dk_at dksX24_add_1 12 rfl rfl)
theorem dX24_add_36 : decode cX24_add 36 = .ok (.getfield 12, 3) := dk_180 0 12 (dk_at dksX24_add_1 13 rfl rfl)
theorem dX24_add_39 : decode cX24_add 39 = .ok (.getfield 55, 3) := dk_180 0 55 (dk_at dksX24_add_1 16 rfl rfl)
theorem dX24_add_42 : decode cX24_add 42 = .ok (.iload 5, 2) := dk_21 5 (dk_at dksX24_add_1 19 rfl rfl)
theorem dX24_add_44 : decode cX24_add 44 = .ok (.iaload, 1) := dk_46 (dk_at dksX24_add_1 21 rfl rfl)
theorem dX24_add_45 : decode cX24_add 45 = .ok (.invokevirtual 58, 3) := dk_182 0 58 (dk_at dksX24_add_2 0 rfl rfl)
theorem dX24_add_48 : decode cX24_add 48 = .ok (.ifCond .ge 13, 3) := dk_156 0 13 (dk_at dksX24_add_2 3 rfl rfl)
theorem dX24_add_51 : decode cX24_add 51 = .ok (.aload_n 0, 1) := dk_42 (dk_at dksX24_add_2 6 rfl rfl)
theorem dX24_add_52 : decode cX24_add 52 = .ok (.getfield 18, 3) := dk_180 0 18 (dk_at dksX24_add_2 7 rfl rfl)
theorem dX24_add_55 : decode cX24_add 55 = .ok (.iload 5, 2) := dk_21 5 (dk_at dksX24_add_2 10 rfl rfl)
theorem dX24_add_57 : decode cX24_add 57 = .ok (.iaload, 1) := dk_46 (dk_at dksX24_add_2 12 rfl rfl)
theorem dX24_add_58 : decode cX24_add 58 = .ok (.goto 10, 3) := dk_167 0 10 (dk_at dksX24_add_2 13 rfl rfl)
theorem dX24_add_61 : decode cX24_add 61 = .ok (.aload_n 0, 1) := dk_42 (dk_at dksX24_add_2 16 rfl rfl)
theorem dX24_add_62 : decode cX24_add 62 = .ok (.getfield 22, 3) := dk_180 0 22 (dk_at dksX24_add_2 17 rfl rfl)
theorem dX24_add_65 : decode cX24_add 65 = .ok (.iload 5, 2) := dk_21 5 (dk_at dksX24_add_2 20 rfl rfl)
theorem dX24_add_67 : decode cX24_add 67 = .ok (.iaload, 1) := dk_46 (dk_at dksX24_add_2 22 rfl rfl)
theorem dX24_add_68 : decode cX24_add 68 = .ok (.istore 5, 2) := dk_54 5 (dk_at dksX24_add_3 0 rfl rfl)
theorem dX24_add_70 : decode cX24_add 70 = .ok (.goto (-49), 3) := dk_167 255 207 (dk_at dksX24_add_3 2 rfl rfl)
theorem dX24_add_73 : decode cX24_add 73 = .ok (.aload_n 0, 1) := dk_42 (dk_at dksX24_add_3 5 rfl rfl)
theorem dX24_add_74 : decode cX24_add 74 = .ok (.getfield 18, 3) := dk_180 0 18 (dk_at dksX24_add_3 6 rfl rfl)
theorem dX24_add_77 : decode cX24_add 77 = .ok (.iload_n 3, 1) := dk_29 (dk_at dksX24_add_3 9 rfl rfl)
theorem dX24_add_78 : decode cX24_add 78 = .ok (.sipush 1000, 3) := dk_17 3 232 (dk_at dksX24_add_3 10 rfl rfl)
theorem dX24_add_81 : decode cX24_add 81 = .ok (.iastore, 1) := dk_79 (dk_at dksX24_add_3 13 rfl rfl)
theorem dX24_add_82 : decode cX24_add 82 = .ok (.aload_n 0, 1) := dk_42 (dk_at dksX24_add_3 14 rfl rfl)
theorem dX24_add_83 : decode cX24_add 83 = .ok (.getfield 22, 3) := dk_180 0 22 (dk_at dksX24_add_3 15 rfl rfl)
theorem dX24_add_86 : decode cX24_add 86 = .ok (.iload_n 3, 1) := dk_29 (dk_at dksX24_add_3 18 rfl rfl)
theorem dX24_add_87 : decode cX24_add 87 = .ok (.sipush 1000, 3) := dk_17 3 232 (dk_at dksX24_add_3 19 rfl rfl)
theorem dX24_add_90 : decode cX24_add 90 = .ok (.iastore, 1) := dk_79 (dk_at dksX24_add_3 22 rfl rfl)
theorem dX24_add_91 : decode cX24_add 91 = .ok (.aload_n 0, 1) := dk_42 (dk_at dksX24_add_3 23 rfl rfl)
theorem dX24_add_92 : decode cX24_add 92 = .ok (.getfield 25, 3) := dk_180 0 25 (dk_at dksX24_add_4 0 rfl rfl)
theorem dX24_add_95 : decode cX24_add 95 = .ok (.iload_n 3, 1) := dk_29 (dk_at dksX24_add_4 3 rfl rfl)
theorem dX24_add_96 : decode cX24_add 96 = .ok (.iload 4, 2) := dk_21 4 (dk_at dksX24_add_4 4 rfl rfl)
theorem dX24_add_98 : decode cX24_add 98 = .ok (.iastore, 1) := dk_79 (dk_at dksX24_add_4 6 rfl rfl)
theorem dX24_add_99 : decode cX24_add 99 = .ok (.aload_n 0, 1) := dk_42 (dk_at dksX24_add_4 7 rfl rfl)
theorem dX24_add_100 : decode cX24_add 100 = .ok (.getfield 28, 3) := dk_180 0 28 (dk_at dksX24_add_4 8 rfl rfl)
theorem dX24_add_103 : decode cX24_add 103 = .ok (.iload_n 3, 1) := dk_29 (dk_at dksX24_add_4 11 rfl rfl)
theorem dX24_add_104 : decode cX24_add 104 = .ok (.iconst 1, 1) := dk_4 (dk_at dksX24_add_4 12 rfl rfl)
theorem dX24_add_105 : decode cX24_add 105 = .ok (.bastore, 1) := dk_84 (dk_at dksX24_add_4 13 rfl rfl)
theorem dX24_add_106 : decode cX24_add 106 = .ok (.iload 4, 2) := dk_21 4 (dk_at dksX24_add_4 14 rfl rfl)
theorem dX24_add_108 : decode cX24_add 108 = .ok (.sipush 1000, 3) := dk_17 3 232 (dk_at dksX24_add_4 16 rfl rfl)
theorem dX24_add_111 : decode cX24_add 111 = .ok (.if_icmp .ne 11, 3) := dk_160 0 11 (dk_at dksX24_add_4 19 rfl rfl)
theorem dX24_add_114 : decode cX24_add 114 = .ok (.aload_n 0, 1) := dk_42 (dk_at dksX24_add_4 22 rfl rfl)
theorem dX24_add_115 : decode cX24_add 115 = .ok (.iload_n 3, 1) := dk_29 (dk_at dksX24_add_4 23 rfl rfl)
theorem dX24_add_116 : decode cX24_add 116 = .ok (.putfield 36, 3) := dk_181 0 36 (dk_at dksX24_add_5 0 rfl rfl)
theorem dX24_add_119 : decode cX24_add 119 = .ok (.goto 40, 3) := dk_167 0 40 (dk_at dksX24_add_5 3 rfl rfl)
theorem dX24_add_122 : decode cX24_add 122 = .ok (.aload_n 0, 1) := dk_42 (dk_at dksX24_add_5 6 rfl rfl)
theorem dX24_add_123 : decode cX24_add 123 = .ok (.iload_n 1, 1) := dk_27 (dk_at dksX24_add_5 7 rfl rfl)
theorem dX24_add_124 : decode cX24_add 124 = .ok (.aload_n 0, 1) := dk_42 (dk_at dksX24_add_5 8 rfl rfl)
theorem dX24_add_125 : decode cX24_add 125 = .ok (.getfield 12, 3) := dk_180 0 12 (dk_at dksX24_add_5 9 rfl rfl)
theorem dX24_add_128 : decode cX24_add 128 = .ok (.getfield 55, 3) := dk_180 0 55 (dk_at dksX24_add_5 12 rfl rfl)
theorem dX24_add_131 : decode cX24_add 131 = .ok (.iload 4, 2) := dk_21 4 (dk_at dksX24_add_5 15 rfl rfl)
theorem dX24_add_133 : decode cX24_add 133 = .ok (.iaload, 1) := dk_46 (dk_at dksX24_add_5 17 rfl rfl)
theorem dX24_add_134 : decode cX24_add 134 = .ok (.invokevirtual 58, 3) := dk_182 0 58 (dk_at dksX24_add_5 18 rfl rfl)
theorem dX24_add_137 : decode cX24_add 137 = .ok (.ifCond .ge 14, 3) := dk_156 0 14 (dk_at dksX24_add_5 21 rfl rfl)
theorem dX24_add_140 : decode cX24_add 140 = .ok (.aload_n 0, 1) := dk_42 (dk_at dksX24_add_6 0 rfl rfl)
theorem dX24_add_141 : decode cX24_add 141 = .ok (.getfield 18, 3) := dk_180 0 18 (dk_at dksX24_add_6 1 rfl rfl)
theorem dX24_add_144 : decode cX24_add 144 = .ok (.iload 4, 2) := dk_21 4 (dk_at dksX24_add_6 4 rfl rfl)
theorem dX24_add_146 : decode cX24_add 146 = .ok (.iload_n 3, 1) := dk_29 (dk_at dksX24_add_6 6 rfl rfl)
theorem dX24_add_147 : decode cX24_add 147 = .ok (.iastore, 1) := dk_79 (dk_at dksX24_add_6 7 rfl rfl)
theorem dX24_add_148 : decode cX24_add 148 = .ok (.goto 11, 3) := dk_167 0 11 (dk_at dksX24_add_6 8 rfl rfl)
theorem dX24_add_151 : decode cX24_add 151 = .ok (.aload_n 0, 1) := dk_42 (dk_at dksX24_add_6 11 rfl rfl)
theorem dX24_add_152 : decode cX24_add 152 = .ok (.getfield 22, 3) := dk_180 0 22 (dk_at dksX24_add_6 12 rfl rfl)
theorem dX24_add_155 : decode cX24_add 155 = .ok (.iload 4, 2) := dk_21 4 (dk_at dksX24_add_6 15 rfl rfl)
theorem dX24_add_157 : decode cX24_add 157 = .ok (.iload_n 3, 1) := dk_29 (dk_at dksX24_add_6 17 rfl rfl)
theorem dX24_add_158 : decode cX24_add 158 = .ok (.iastore, 1) := dk_79 (dk_at dksX24_add_6 18 rfl rfl)
theorem dX24_add_159 : decode cX24_add 159 = .ok (.aload_n 0, 1) := dk_42 (dk_at dksX24_add_6 19 rfl rfl)
theorem dX24_add_160 : decode cX24_add 160 = .ok (.iload_n 3, 1) := dk_29 (dk_at dksX24_add_6 20 rfl rfl)
theorem dX24_add_161 : decode cX24_add 161 = .ok (.invokevirtual 85, 3) := dk_182 0 85 (dk_at dksX24_add_6 21 rfl rfl)
theorem dX24_add_164 : decode cX24_add 164 = .ok (.aload_n 0, 1) := dk_42 (dk_at dksX24_add_7 0 rfl rfl)
theorem dX24_add_165 : decode cX24_add 165 = .ok (.dup, 1) := dk_89 (dk_at dksX24_add_7 1 rfl rfl)
theorem dX24_add_166 : decode cX24_add 166 = .ok (.getfield 43, 3) := dk_180 0 43 (dk_at dksX24_add_7 2 rfl rfl)
theorem dX24_add_169 : decode cX24_add 169 = .ok (.iconst 1, 1) := dk_4 (dk_at dksX24_add_7 5 rfl rfl)
theorem dX24_add_170 : decode cX24_add 170 = .ok (.iadd, 1) := dk_96 (dk_at dksX24_add_7 6 rfl rfl)
theorem dX24_add_171 : decode cX24_add 171 = .ok (.putfield 43, 3) := dk_181 0 43 (dk_at dksX24_add_7 7 rfl rfl)
theorem dX24_add_174 : decode cX24_add 174 = .ok (.return_, 1) := dk_177 (dk_at dksX24_add_7 10 rfl rfl)
abbrev cX24_mendAdded : ByteArray := prog_35_method_24_code
def yX24_mendAdded : MethodName := ⟨RX24, "mendAdded", "(I)V"⟩
def dkwX24_mendAdded_10 : List UInt8 := [180, 0, 25, 28, 46, 46, 182, 0, 88, 167, 255, 15, 42, 180, 0, 28, 42, 180, 0, 36, 3, 84, 177]
abbrev dktX24_mendAdded_10 : List UInt8 := dkwX24_mendAdded_10 ++ []
def dkwX24_mendAdded_9 : List UInt8 := [180, 0, 25, 42, 180, 0, 25, 28, 46, 46, 182, 0, 91, 167, 0, 18, 42, 42, 180, 0, 25, 42]
abbrev dktX24_mendAdded_9 : List UInt8 := dkwX24_mendAdded_9 ++ dktX24_mendAdded_10
def dkwX24_mendAdded_8 : List UInt8 := [180, 0, 28, 42, 180, 0, 25, 42, 180, 0, 25, 28, 46, 46, 4, 84, 21, 5, 153, 0, 21, 42, 42]
abbrev dktX24_mendAdded_8 : List UInt8 := dkwX24_mendAdded_8 ++ dktX24_mendAdded_9
def dkwX24_mendAdded_7 : List UInt8 := [182, 0, 88, 167, 0, 8, 42, 28, 182, 0, 91, 42, 180, 0, 28, 42, 180, 0, 25, 28, 46, 3, 84, 42]
abbrev dktX24_mendAdded_7 : List UInt8 := dkwX24_mendAdded_7 ++ dktX24_mendAdded_8
def dkwX24_mendAdded_6 : List UInt8 := [29, 46, 167, 0, 9, 42, 180, 0, 18, 29, 46, 160, 0, 23, 29, 61, 21, 5, 153, 0, 11, 42, 28]
abbrev dktX24_mendAdded_6 : List UInt8 := dkwX24_mendAdded_6 ++ dktX24_mendAdded_7
def dkwX24_mendAdded_5 : List UInt8 := [42, 180, 0, 28, 21, 4, 4, 84, 21, 4, 61, 167, 255, 129, 28, 21, 5, 153, 0, 12, 42, 180, 0, 22]
abbrev dktX24_mendAdded_5 : List UInt8 := dkwX24_mendAdded_5 ++ dktX24_mendAdded_6
def dkwX24_mendAdded_4 : List UInt8 := [180, 0, 28, 21, 6, 51, 153, 0, 32, 42, 180, 0, 28, 29, 3, 84, 42, 180, 0, 28, 21, 6, 3, 84]
abbrev dktX24_mendAdded_4 : List UInt8 := dkwX24_mendAdded_4 ++ dktX24_mendAdded_5
def dkwX24_mendAdded_3 : List UInt8 := [46, 167, 0, 10, 42, 180, 0, 18, 21, 4, 46, 54, 6, 21, 6, 17, 3, 232, 159, 0, 42, 42]
abbrev dktX24_mendAdded_3 : List UInt8 := dkwX24_mendAdded_3 ++ dktX24_mendAdded_4
def dkwX24_mendAdded_2 : List UInt8 := [21, 4, 46, 160, 0, 7, 4, 167, 0, 4, 3, 54, 5, 21, 5, 153, 0, 13, 42, 180, 0, 22, 21, 4]
abbrev dktX24_mendAdded_2 : List UInt8 := dkwX24_mendAdded_2 ++ dktX24_mendAdded_3
def dkwX24_mendAdded_1 : List UInt8 := [51, 153, 0, 221, 42, 180, 0, 25, 28, 46, 62, 42, 180, 0, 25, 29, 46, 54, 4, 29, 42, 180, 0, 18]
abbrev dktX24_mendAdded_1 : List UInt8 := dkwX24_mendAdded_1 ++ dktX24_mendAdded_2
def dkwX24_mendAdded_0 : List UInt8 := [27, 61, 42, 180, 0, 25, 28, 46, 17, 3, 232, 159, 0, 235, 42, 180, 0, 28, 42, 180, 0, 25, 28, 46]
abbrev dktX24_mendAdded_0 : List UInt8 := dkwX24_mendAdded_0 ++ dktX24_mendAdded_1
theorem dksX24_mendAdded_0 : cX24_mendAdded.data.toList.drop 0 = dktX24_mendAdded_0 := by decide +kernel
theorem dksX24_mendAdded_1 : cX24_mendAdded.data.toList.drop 24 = dktX24_mendAdded_1 := dk_seg dksX24_mendAdded_0 24 rfl rfl
theorem dksX24_mendAdded_2 : cX24_mendAdded.data.toList.drop 48 = dktX24_mendAdded_2 := dk_seg dksX24_mendAdded_1 24 rfl rfl
theorem dksX24_mendAdded_3 : cX24_mendAdded.data.toList.drop 72 = dktX24_mendAdded_3 := dk_seg dksX24_mendAdded_2 24 rfl rfl
theorem dksX24_mendAdded_4 : cX24_mendAdded.data.toList.drop 94 = dktX24_mendAdded_4 := dk_seg dksX24_mendAdded_3 22 rfl rfl
theorem dksX24_mendAdded_5 : cX24_mendAdded.data.toList.drop 118 = dktX24_mendAdded_5 := dk_seg dksX24_mendAdded_4 24 rfl rfl
theorem dksX24_mendAdded_6 : cX24_mendAdded.data.toList.drop 142 = dktX24_mendAdded_6 := dk_seg dksX24_mendAdded_5 24 rfl rfl
theorem dksX24_mendAdded_7 : cX24_mendAdded.data.toList.drop 165 = dktX24_mendAdded_7 := dk_seg dksX24_mendAdded_6 23 rfl rfl
theorem dksX24_mendAdded_8 : cX24_mendAdded.data.toList.drop 189 = dktX24_mendAdded_8 := dk_seg dksX24_mendAdded_7 24 rfl rfl
theorem dksX24_mendAdded_9 : cX24_mendAdded.data.toList.drop 212 = dktX24_mendAdded_9 := dk_seg dksX24_mendAdded_8 23 rfl rfl
theorem dksX24_mendAdded_10 : cX24_mendAdded.data.toList.drop 234 = dktX24_mendAdded_10 := dk_seg dksX24_mendAdded_9 22 rfl rfl
theorem dX24_mendAdded_0 : decode cX24_mendAdded 0 = .ok (.iload_n 1, 1) := dk_27 (dk_at dksX24_mendAdded_0 0 rfl rfl)
theorem dX24_mendAdded_1 : decode cX24_mendAdded 1 = .ok (.istore_n 2, 1) := dk_61 (dk_at dksX24_mendAdded_0 1 rfl rfl)
theorem dX24_mendAdded_2 : decode cX24_mendAdded 2 = .ok (.aload_n 0, 1) := dk_42 (dk_at dksX24_mendAdded_0 2 rfl rfl)
theorem dX24_mendAdded_3 : decode cX24_mendAdded 3 = .ok (.getfield 25, 3) := dk_180 0 25 (dk_at dksX24_mendAdded_0 3 rfl rfl)
theorem dX24_mendAdded_6 : decode cX24_mendAdded 6 = .ok (.iload_n 2, 1) := dk_28 (dk_at dksX24_mendAdded_0 6 rfl rfl)
theorem dX24_mendAdded_7 : decode cX24_mendAdded 7 = .ok (.iaload, 1) := dk_46 (dk_at dksX24_mendAdded_0 7 rfl rfl)
theorem dX24_mendAdded_8 : decode cX24_mendAdded 8 = .ok (.sipush 1000, 3) := dk_17 3 232 (dk_at dksX24_mendAdded_0 8 rfl rfl)
theorem dX24_mendAdded_11 : decode cX24_mendAdded 11 = .ok (.if_icmp .eq 235, 3) := dk_159 0 235 (dk_at dksX24_mendAdded_0 11 rfl rfl)
theorem dX24_mendAdded_14 : decode cX24_mendAdded 14 = .ok (.aload_n 0, 1) := dk_42 (dk_at dksX24_mendAdded_0 14 rfl rfl)
theorem dX24_mendAdded_15 : decode cX24_mendAdded 15 = .ok (.getfield 28, 3) := dk_180 0 28 (dk_at dksX24_mendAdded_0 15 rfl rfl)
theorem dX24_mendAdded_18 : decode cX24_mendAdded 18 = .ok (.aload_n 0, 1) := dk_42 (dk_at dksX24_mendAdded_0 18 rfl rfl)
theorem dX24_mendAdded_19 : decode cX24_mendAdded 19 = .ok (.getfield 25, 3) := dk_180 0 25 (dk_at dksX24_mendAdded_0 19 rfl rfl)
theorem dX24_mendAdded_22 : decode cX24_mendAdded 22 = .ok (.iload_n 2, 1) := dk_28 (dk_at dksX24_mendAdded_0 22 rfl rfl)
theorem dX24_mendAdded_23 : decode cX24_mendAdded 23 = .ok (.iaload, 1) := dk_46 (dk_at dksX24_mendAdded_0 23 rfl rfl)
theorem dX24_mendAdded_24 : decode cX24_mendAdded 24 = .ok (.baload, 1) := dk_51 (dk_at dksX24_mendAdded_1 0 rfl rfl)
theorem dX24_mendAdded_25 : decode cX24_mendAdded 25 = .ok (.ifCond .eq 221, 3) := dk_153 0 221 (dk_at dksX24_mendAdded_1 1 rfl rfl)
theorem dX24_mendAdded_28 : decode cX24_mendAdded 28 = .ok (.aload_n 0, 1) := dk_42 (dk_at dksX24_mendAdded_1 4 rfl rfl)
theorem dX24_mendAdded_29 : decode cX24_mendAdded 29 = .ok (.getfield 25, 3) := dk_180 0 25 (dk_at dksX24_mendAdded_1 5 rfl rfl)
theorem dX24_mendAdded_32 : decode cX24_mendAdded 32 = .ok (.iload_n 2, 1) := dk_28 (dk_at dksX24_mendAdded_1 8 rfl rfl)
theorem dX24_mendAdded_33 : decode cX24_mendAdded 33 = .ok (.iaload, 1) := dk_46 (dk_at dksX24_mendAdded_1 9 rfl rfl)
theorem dX24_mendAdded_34 : decode cX24_mendAdded 34 = .ok (.istore_n 3, 1) := dk_62 (dk_at dksX24_mendAdded_1 10 rfl rfl)
theorem dX24_mendAdded_35 : decode cX24_mendAdded 35 = .ok (.aload_n 0, 1) := dk_42 (dk_at dksX24_mendAdded_1 11 rfl rfl)
theorem dX24_mendAdded_36 : decode cX24_mendAdded 36 = .ok (.getfield 25, 3) := dk_180 0 25 (dk_at dksX24_mendAdded_1 12 rfl rfl)
theorem dX24_mendAdded_39 : decode cX24_mendAdded 39 = .ok (.iload_n 3, 1) := dk_29 (dk_at dksX24_mendAdded_1 15 rfl rfl)
theorem dX24_mendAdded_40 : decode cX24_mendAdded 40 = .ok (.iaload, 1) := dk_46 (dk_at dksX24_mendAdded_1 16 rfl rfl)
theorem dX24_mendAdded_41 : decode cX24_mendAdded 41 = .ok (.istore 4, 2) := dk_54 4 (dk_at dksX24_mendAdded_1 17 rfl rfl)
theorem dX24_mendAdded_43 : decode cX24_mendAdded 43 = .ok (.iload_n 3, 1) := dk_29 (dk_at dksX24_mendAdded_1 19 rfl rfl)
theorem dX24_mendAdded_44 : decode cX24_mendAdded 44 = .ok (.aload_n 0, 1) := dk_42 (dk_at dksX24_mendAdded_1 20 rfl rfl)
theorem dX24_mendAdded_45 : decode cX24_mendAdded 45 = .ok (.getfield 18, 3) := dk_180 0 18 (dk_at dksX24_mendAdded_1 21 rfl rfl)
theorem dX24_mendAdded_48 : decode cX24_mendAdded 48 = .ok (.iload 4, 2) := dk_21 4 (dk_at dksX24_mendAdded_2 0 rfl rfl)
theorem dX24_mendAdded_50 : decode cX24_mendAdded 50 = .ok (.iaload, 1) := dk_46 (dk_at dksX24_mendAdded_2 2 rfl rfl)
theorem dX24_mendAdded_51 : decode cX24_mendAdded 51 = .ok (.if_icmp .ne 7, 3) := dk_160 0 7 (dk_at dksX24_mendAdded_2 3 rfl rfl)
theorem dX24_mendAdded_54 : decode cX24_mendAdded 54 = .ok (.iconst 1, 1) := dk_4 (dk_at dksX24_mendAdded_2 6 rfl rfl)
theorem dX24_mendAdded_55 : decode cX24_mendAdded 55 = .ok (.goto 4, 3) := dk_167 0 4 (dk_at dksX24_mendAdded_2 7 rfl rfl)
theorem dX24_mendAdded_58 : decode cX24_mendAdded 58 = .ok (.iconst 0, 1) := dk_3 (dk_at dksX24_mendAdded_2 10 rfl rfl)
theorem dX24_mendAdded_59 : decode cX24_mendAdded 59 = .ok (.istore 5, 2) := dk_54 5 (dk_at dksX24_mendAdded_2 11 rfl rfl)
theorem dX24_mendAdded_61 : decode cX24_mendAdded 61 = .ok (.iload 5, 2) := dk_21 5 (dk_at dksX24_mendAdded_2 13 rfl rfl)
theorem dX24_mendAdded_63 : decode cX24_mendAdded 63 = .ok (.ifCond .eq 13, 3) := dk_153 0 13 (dk_at dksX24_mendAdded_2 15 rfl rfl)
theorem dX24_mendAdded_66 : decode cX24_mendAdded 66 = .ok (.aload_n 0, 1) := dk_42 (dk_at dksX24_mendAdded_2 18 rfl rfl)
theorem dX24_mendAdded_67 : decode cX24_mendAdded 67 = .ok (.getfield 22, 3) := dk_180 0 22 (dk_at dksX24_mendAdded_2 19 rfl rfl)
theorem dX24_mendAdded_70 : decode cX24_mendAdded 70 = .ok (.iload 4, 2) := dk_21 4 (dk_at dksX24_mendAdded_2 22 rfl rfl)
theorem dX24_mendAdded_72 : decode cX24_mendAdded 72 = .ok (.iaload, 1) := dk_46 (dk_at dksX24_mendAdded_3 0 rfl rfl)
theorem dX24_mendAdded_73 : decode cX24_mendAdded 73 = .ok (.goto 10, 3) := dk_167 0 10 (dk_at dksX24_mendAdded_3 1 rfl rfl)
theorem dX24_mendAdded_76 : decode cX24_mendAdded 76 = .ok (.aload_n 0, 1) := dk_42 (dk_at dksX24_mendAdded_3 4 rfl rfl)
theorem dX24_mendAdded_77 : decode cX24_mendAdded 77 = .ok (.getfield 18, 3) := dk_180 0 18 (dk_at dksX24_mendAdded_3 5 rfl rfl)
theorem dX24_mendAdded_80 : decode cX24_mendAdded 80 = .ok (.iload 4, 2) := dk_21 4 (dk_at dksX24_mendAdded_3 8 rfl rfl)
theorem dX24_mendAdded_82 : decode cX24_mendAdded 82 = .ok (.iaload, 1) := dk_46 (dk_at dksX24_mendAdded_3 10 rfl rfl)
theorem dX24_mendAdded_83 : decode cX24_mendAdded 83 = .ok (.istore 6, 2) := dk_54 6 (dk_at dksX24_mendAdded_3 11 rfl rfl)
theorem dX24_mendAdded_85 : decode cX24_mendAdded 85 = .ok (.iload 6, 2) := dk_21 6 (dk_at dksX24_mendAdded_3 13 rfl rfl)
theorem dX24_mendAdded_87 : decode cX24_mendAdded 87 = .ok (.sipush 1000, 3) := dk_17 3 232 (dk_at dksX24_mendAdded_3 15 rfl rfl)
theorem dX24_mendAdded_90 : decode cX24_mendAdded 90 = .ok (.if_icmp .eq 42, 3) := dk_159 0 42 (dk_at dksX24_mendAdded_3 18 rfl rfl)
theorem dX24_mendAdded_93 : decode cX24_mendAdded 93 = .ok (.aload_n 0, 1) := dk_42 (dk_at dksX24_mendAdded_3 21 rfl rfl)
theorem dX24_mendAdded_94 : decode cX24_mendAdded 94 = .ok (.getfield 28, 3) := dk_180 0 28 (dk_at dksX24_mendAdded_4 0 rfl rfl)
theorem dX24_mendAdded_97 : decode cX24_mendAdded 97 = .ok (.iload 6, 2) := dk_21 6 (dk_at dksX24_mendAdded_4 3 rfl rfl)
theorem dX24_mendAdded_99 : decode cX24_mendAdded 99 = .ok (.baload, 1) := dk_51 (dk_at dksX24_mendAdded_4 5 rfl rfl)
theorem dX24_mendAdded_100 : decode cX24_mendAdded 100 = .ok (.ifCond .eq 32, 3) := dk_153 0 32 (dk_at dksX24_mendAdded_4 6 rfl rfl)
theorem dX24_mendAdded_103 : decode cX24_mendAdded 103 = .ok (.aload_n 0, 1) := dk_42 (dk_at dksX24_mendAdded_4 9 rfl rfl)
theorem dX24_mendAdded_104 : decode cX24_mendAdded 104 = .ok (.getfield 28, 3) := dk_180 0 28 (dk_at dksX24_mendAdded_4 10 rfl rfl)
theorem dX24_mendAdded_107 : decode cX24_mendAdded 107 = .ok (.iload_n 3, 1) := dk_29 (dk_at dksX24_mendAdded_4 13 rfl rfl)
theorem dX24_mendAdded_108 : decode cX24_mendAdded 108 = .ok (.iconst 0, 1) := dk_3 (dk_at dksX24_mendAdded_4 14 rfl rfl)
theorem dX24_mendAdded_109 : decode cX24_mendAdded 109 = .ok (.bastore, 1) := dk_84 (dk_at dksX24_mendAdded_4 15 rfl rfl)
theorem dX24_mendAdded_110 : decode cX24_mendAdded 110 = .ok (.aload_n 0, 1) := dk_42 (dk_at dksX24_mendAdded_4 16 rfl rfl)
theorem dX24_mendAdded_111 : decode cX24_mendAdded 111 = .ok (.getfield 28, 3) := dk_180 0 28 (dk_at dksX24_mendAdded_4 17 rfl rfl)
theorem dX24_mendAdded_114 : decode cX24_mendAdded 114 = .ok (.iload 6, 2) := dk_21 6 (dk_at dksX24_mendAdded_4 20 rfl rfl)
theorem dX24_mendAdded_116 : decode cX24_mendAdded 116 = .ok (.iconst 0, 1) := dk_3 (dk_at dksX24_mendAdded_4 22 rfl rfl)
theorem dX24_mendAdded_117 : decode cX24_mendAdded 117 = .ok (.bastore, 1) := dk_84 (dk_at dksX24_mendAdded_4 23 rfl rfl)
theorem dX24_mendAdded_118 : decode cX24_mendAdded 118 = .ok (.aload_n 0, 1) := dk_42 (dk_at dksX24_mendAdded_5 0 rfl rfl)
theorem dX24_mendAdded_119 : decode cX24_mendAdded 119 = .ok (.getfield 28, 3) := dk_180 0 28 (dk_at dksX24_mendAdded_5 1 rfl rfl)
theorem dX24_mendAdded_122 : decode cX24_mendAdded 122 = .ok (.iload 4, 2) := dk_21 4 (dk_at dksX24_mendAdded_5 4 rfl rfl)
theorem dX24_mendAdded_124 : decode cX24_mendAdded 124 = .ok (.iconst 1, 1) := dk_4 (dk_at dksX24_mendAdded_5 6 rfl rfl)
theorem dX24_mendAdded_125 : decode cX24_mendAdded 125 = .ok (.bastore, 1) := dk_84 (dk_at dksX24_mendAdded_5 7 rfl rfl)
theorem dX24_mendAdded_126 : decode cX24_mendAdded 126 = .ok (.iload 4, 2) := dk_21 4 (dk_at dksX24_mendAdded_5 8 rfl rfl)
theorem dX24_mendAdded_128 : decode cX24_mendAdded 128 = .ok (.istore_n 2, 1) := dk_61 (dk_at dksX24_mendAdded_5 10 rfl rfl)
theorem dX24_mendAdded_129 : decode cX24_mendAdded 129 = .ok (.goto (-127), 3) := dk_167 255 129 (dk_at dksX24_mendAdded_5 11 rfl rfl)
theorem dX24_mendAdded_132 : decode cX24_mendAdded 132 = .ok (.iload_n 2, 1) := dk_28 (dk_at dksX24_mendAdded_5 14 rfl rfl)
theorem dX24_mendAdded_133 : decode cX24_mendAdded 133 = .ok (.iload 5, 2) := dk_21 5 (dk_at dksX24_mendAdded_5 15 rfl rfl)
theorem dX24_mendAdded_135 : decode cX24_mendAdded 135 = .ok (.ifCond .eq 12, 3) := dk_153 0 12 (dk_at dksX24_mendAdded_5 17 rfl rfl)
theorem dX24_mendAdded_138 : decode cX24_mendAdded 138 = .ok (.aload_n 0, 1) := dk_42 (dk_at dksX24_mendAdded_5 20 rfl rfl)
theorem dX24_mendAdded_139 : decode cX24_mendAdded 139 = .ok (.getfield 22, 3) := dk_180 0 22 (dk_at dksX24_mendAdded_5 21 rfl rfl)
theorem dX24_mendAdded_142 : decode cX24_mendAdded 142 = .ok (.iload_n 3, 1) := dk_29 (dk_at dksX24_mendAdded_6 0 rfl rfl)
theorem dX24_mendAdded_143 : decode cX24_mendAdded 143 = .ok (.iaload, 1) := dk_46 (dk_at dksX24_mendAdded_6 1 rfl rfl)
theorem dX24_mendAdded_144 : decode cX24_mendAdded 144 = .ok (.goto 9, 3) := dk_167 0 9 (dk_at dksX24_mendAdded_6 2 rfl rfl)
theorem dX24_mendAdded_147 : decode cX24_mendAdded 147 = .ok (.aload_n 0, 1) := dk_42 (dk_at dksX24_mendAdded_6 5 rfl rfl)
theorem dX24_mendAdded_148 : decode cX24_mendAdded 148 = .ok (.getfield 18, 3) := dk_180 0 18 (dk_at dksX24_mendAdded_6 6 rfl rfl)
theorem dX24_mendAdded_151 : decode cX24_mendAdded 151 = .ok (.iload_n 3, 1) := dk_29 (dk_at dksX24_mendAdded_6 9 rfl rfl)
theorem dX24_mendAdded_152 : decode cX24_mendAdded 152 = .ok (.iaload, 1) := dk_46 (dk_at dksX24_mendAdded_6 10 rfl rfl)
theorem dX24_mendAdded_153 : decode cX24_mendAdded 153 = .ok (.if_icmp .ne 23, 3) := dk_160 0 23 (dk_at dksX24_mendAdded_6 11 rfl rfl)
theorem dX24_mendAdded_156 : decode cX24_mendAdded 156 = .ok (.iload_n 3, 1) := dk_29 (dk_at dksX24_mendAdded_6 14 rfl rfl)
theorem dX24_mendAdded_157 : decode cX24_mendAdded 157 = .ok (.istore_n 2, 1) := dk_61 (dk_at dksX24_mendAdded_6 15 rfl rfl)
theorem dX24_mendAdded_158 : decode cX24_mendAdded 158 = .ok (.iload 5, 2) := dk_21 5 (dk_at dksX24_mendAdded_6 16 rfl rfl)
theorem dX24_mendAdded_160 : decode cX24_mendAdded 160 = .ok (.ifCond .eq 11, 3) := dk_153 0 11 (dk_at dksX24_mendAdded_6 18 rfl rfl)
theorem dX24_mendAdded_163 : decode cX24_mendAdded 163 = .ok (.aload_n 0, 1) := dk_42 (dk_at dksX24_mendAdded_6 21 rfl rfl)
theorem dX24_mendAdded_164 : decode cX24_mendAdded 164 = .ok (.iload_n 2, 1) := dk_28 (dk_at dksX24_mendAdded_6 22 rfl rfl)
theorem dX24_mendAdded_165 : decode cX24_mendAdded 165 = .ok (.invokevirtual 88, 3) := dk_182 0 88 (dk_at dksX24_mendAdded_7 0 rfl rfl)
theorem dX24_mendAdded_168 : decode cX24_mendAdded 168 = .ok (.goto 8, 3) := dk_167 0 8 (dk_at dksX24_mendAdded_7 3 rfl rfl)
theorem dX24_mendAdded_171 : decode cX24_mendAdded 171 = .ok (.aload_n 0, 1) := dk_42 (dk_at dksX24_mendAdded_7 6 rfl rfl)
theorem dX24_mendAdded_172 : decode cX24_mendAdded 172 = .ok (.iload_n 2, 1) := dk_28 (dk_at dksX24_mendAdded_7 7 rfl rfl)
theorem dX24_mendAdded_173 : decode cX24_mendAdded 173 = .ok (.invokevirtual 91, 3) := dk_182 0 91 (dk_at dksX24_mendAdded_7 8 rfl rfl)
theorem dX24_mendAdded_176 : decode cX24_mendAdded 176 = .ok (.aload_n 0, 1) := dk_42 (dk_at dksX24_mendAdded_7 11 rfl rfl)
theorem dX24_mendAdded_177 : decode cX24_mendAdded 177 = .ok (.getfield 28, 3) := dk_180 0 28 (dk_at dksX24_mendAdded_7 12 rfl rfl)
theorem dX24_mendAdded_180 : decode cX24_mendAdded 180 = .ok (.aload_n 0, 1) := dk_42 (dk_at dksX24_mendAdded_7 15 rfl rfl)
theorem dX24_mendAdded_181 : decode cX24_mendAdded 181 = .ok (.getfield 25, 3) := dk_180 0 25 (dk_at dksX24_mendAdded_7 16 rfl rfl)
theorem dX24_mendAdded_184 : decode cX24_mendAdded 184 = .ok (.iload_n 2, 1) := dk_28 (dk_at dksX24_mendAdded_7 19 rfl rfl)
theorem dX24_mendAdded_185 : decode cX24_mendAdded 185 = .ok (.iaload, 1) := dk_46 (dk_at dksX24_mendAdded_7 20 rfl rfl)
theorem dX24_mendAdded_186 : decode cX24_mendAdded 186 = .ok (.iconst 0, 1) := dk_3 (dk_at dksX24_mendAdded_7 21 rfl rfl)
theorem dX24_mendAdded_187 : decode cX24_mendAdded 187 = .ok (.bastore, 1) := dk_84 (dk_at dksX24_mendAdded_7 22 rfl rfl)
theorem dX24_mendAdded_188 : decode cX24_mendAdded 188 = .ok (.aload_n 0, 1) := dk_42 (dk_at dksX24_mendAdded_7 23 rfl rfl)
theorem dX24_mendAdded_189 : decode cX24_mendAdded 189 = .ok (.getfield 28, 3) := dk_180 0 28 (dk_at dksX24_mendAdded_8 0 rfl rfl)
theorem dX24_mendAdded_192 : decode cX24_mendAdded 192 = .ok (.aload_n 0, 1) := dk_42 (dk_at dksX24_mendAdded_8 3 rfl rfl)
theorem dX24_mendAdded_193 : decode cX24_mendAdded 193 = .ok (.getfield 25, 3) := dk_180 0 25 (dk_at dksX24_mendAdded_8 4 rfl rfl)
theorem dX24_mendAdded_196 : decode cX24_mendAdded 196 = .ok (.aload_n 0, 1) := dk_42 (dk_at dksX24_mendAdded_8 7 rfl rfl)
theorem dX24_mendAdded_197 : decode cX24_mendAdded 197 = .ok (.getfield 25, 3) := dk_180 0 25 (dk_at dksX24_mendAdded_8 8 rfl rfl)
theorem dX24_mendAdded_200 : decode cX24_mendAdded 200 = .ok (.iload_n 2, 1) := dk_28 (dk_at dksX24_mendAdded_8 11 rfl rfl)
theorem dX24_mendAdded_201 : decode cX24_mendAdded 201 = .ok (.iaload, 1) := dk_46 (dk_at dksX24_mendAdded_8 12 rfl rfl)
theorem dX24_mendAdded_202 : decode cX24_mendAdded 202 = .ok (.iaload, 1) := dk_46 (dk_at dksX24_mendAdded_8 13 rfl rfl)
theorem dX24_mendAdded_203 : decode cX24_mendAdded 203 = .ok (.iconst 1, 1) := dk_4 (dk_at dksX24_mendAdded_8 14 rfl rfl)
theorem dX24_mendAdded_204 : decode cX24_mendAdded 204 = .ok (.bastore, 1) := dk_84 (dk_at dksX24_mendAdded_8 15 rfl rfl)
theorem dX24_mendAdded_205 : decode cX24_mendAdded 205 = .ok (.iload 5, 2) := dk_21 5 (dk_at dksX24_mendAdded_8 16 rfl rfl)
theorem dX24_mendAdded_207 : decode cX24_mendAdded 207 = .ok (.ifCond .eq 21, 3) := dk_153 0 21 (dk_at dksX24_mendAdded_8 18 rfl rfl)
theorem dX24_mendAdded_210 : decode cX24_mendAdded 210 = .ok (.aload_n 0, 1) := dk_42 (dk_at dksX24_mendAdded_8 21 rfl rfl)
theorem dX24_mendAdded_211 : decode cX24_mendAdded 211 = .ok (.aload_n 0, 1) := dk_42 (dk_at dksX24_mendAdded_8 22 rfl rfl)
theorem dX24_mendAdded_212 : decode cX24_mendAdded 212 = .ok (.getfield 25, 3) := dk_180 0 25 (dk_at dksX24_mendAdded_9 0 rfl rfl)
theorem dX24_mendAdded_215 : decode cX24_mendAdded 215 = .ok (.aload_n 0, 1) := dk_42 (dk_at dksX24_mendAdded_9 3 rfl rfl)
theorem dX24_mendAdded_216 : decode cX24_mendAdded 216 = .ok (.getfield 25, 3) := dk_180 0 25 (dk_at dksX24_mendAdded_9 4 rfl rfl)
theorem dX24_mendAdded_219 : decode cX24_mendAdded 219 = .ok (.iload_n 2, 1) := dk_28 (dk_at dksX24_mendAdded_9 7 rfl rfl)
theorem dX24_mendAdded_220 : decode cX24_mendAdded 220 = .ok (.iaload, 1) := dk_46 (dk_at dksX24_mendAdded_9 8 rfl rfl)
theorem dX24_mendAdded_221 : decode cX24_mendAdded 221 = .ok (.iaload, 1) := dk_46 (dk_at dksX24_mendAdded_9 9 rfl rfl)
theorem dX24_mendAdded_222 : decode cX24_mendAdded 222 = .ok (.invokevirtual 91, 3) := dk_182 0 91 (dk_at dksX24_mendAdded_9 10 rfl rfl)
theorem dX24_mendAdded_225 : decode cX24_mendAdded 225 = .ok (.goto 18, 3) := dk_167 0 18 (dk_at dksX24_mendAdded_9 13 rfl rfl)
theorem dX24_mendAdded_228 : decode cX24_mendAdded 228 = .ok (.aload_n 0, 1) := dk_42 (dk_at dksX24_mendAdded_9 16 rfl rfl)
theorem dX24_mendAdded_229 : decode cX24_mendAdded 229 = .ok (.aload_n 0, 1) := dk_42 (dk_at dksX24_mendAdded_9 17 rfl rfl)
theorem dX24_mendAdded_230 : decode cX24_mendAdded 230 = .ok (.getfield 25, 3) := dk_180 0 25 (dk_at dksX24_mendAdded_9 18 rfl rfl)
theorem dX24_mendAdded_233 : decode cX24_mendAdded 233 = .ok (.aload_n 0, 1) := dk_42 (dk_at dksX24_mendAdded_9 21 rfl rfl)
theorem dX24_mendAdded_234 : decode cX24_mendAdded 234 = .ok (.getfield 25, 3) := dk_180 0 25 (dk_at dksX24_mendAdded_10 0 rfl rfl)
theorem dX24_mendAdded_237 : decode cX24_mendAdded 237 = .ok (.iload_n 2, 1) := dk_28 (dk_at dksX24_mendAdded_10 3 rfl rfl)
theorem dX24_mendAdded_238 : decode cX24_mendAdded 238 = .ok (.iaload, 1) := dk_46 (dk_at dksX24_mendAdded_10 4 rfl rfl)
theorem dX24_mendAdded_239 : decode cX24_mendAdded 239 = .ok (.iaload, 1) := dk_46 (dk_at dksX24_mendAdded_10 5 rfl rfl)
theorem dX24_mendAdded_240 : decode cX24_mendAdded 240 = .ok (.invokevirtual 88, 3) := dk_182 0 88 (dk_at dksX24_mendAdded_10 6 rfl rfl)
theorem dX24_mendAdded_243 : decode cX24_mendAdded 243 = .ok (.goto (-241), 3) := dk_167 255 15 (dk_at dksX24_mendAdded_10 9 rfl rfl)
theorem dX24_mendAdded_246 : decode cX24_mendAdded 246 = .ok (.aload_n 0, 1) := dk_42 (dk_at dksX24_mendAdded_10 12 rfl rfl)
theorem dX24_mendAdded_247 : decode cX24_mendAdded 247 = .ok (.getfield 28, 3) := dk_180 0 28 (dk_at dksX24_mendAdded_10 13 rfl rfl)
theorem dX24_mendAdded_250 : decode cX24_mendAdded 250 = .ok (.aload_n 0, 1) := dk_42 (dk_at dksX24_mendAdded_10 16 rfl rfl)
theorem dX24_mendAdded_251 : decode cX24_mendAdded 251 = .ok (.getfield 36, 3) := dk_180 0 36 (dk_at dksX24_mendAdded_10 17 rfl rfl)
theorem dX24_mendAdded_254 : decode cX24_mendAdded 254 = .ok (.iconst 0, 1) := dk_3 (dk_at dksX24_mendAdded_10 20 rfl rfl)
theorem dX24_mendAdded_255 : decode cX24_mendAdded 255 = .ok (.bastore, 1) := dk_84 (dk_at dksX24_mendAdded_10 21 rfl rfl)
theorem dX24_mendAdded_256 : decode cX24_mendAdded 256 = .ok (.return_, 1) := dk_177 (dk_at dksX24_mendAdded_10 22 rfl rfl)
abbrev cX24_turnLeft : ByteArray := prog_35_method_20_code
def yX24_turnLeft : MethodName := ⟨RX24, "turnLeft", "(I)V"⟩
def dkwX24_turnLeft_2 : List UInt8 := [182, 0, 78, 42, 180, 0, 18, 28, 27, 79, 42, 180, 0, 25, 27, 28, 79, 177]
abbrev dktX24_turnLeft_2 : List UInt8 := dkwX24_turnLeft_2 ++ []
def dkwX24_turnLeft_1 : List UInt8 := [46, 17, 3, 232, 159, 0, 15, 42, 180, 0, 25, 42, 180, 0, 18, 28, 46, 27, 79, 42, 27, 28]
abbrev dktX24_turnLeft_1 : List UInt8 := dkwX24_turnLeft_1 ++ dktX24_turnLeft_2
def dkwX24_turnLeft_0 : List UInt8 := [42, 180, 0, 22, 27, 46, 61, 42, 180, 0, 22, 27, 42, 180, 0, 18, 28, 46, 79, 42, 180, 0, 18, 28]
abbrev dktX24_turnLeft_0 : List UInt8 := dkwX24_turnLeft_0 ++ dktX24_turnLeft_1
theorem dksX24_turnLeft_0 : cX24_turnLeft.data.toList.drop 0 = dktX24_turnLeft_0 := by decide +kernel
theorem dksX24_turnLeft_1 : cX24_turnLeft.data.toList.drop 24 = dktX24_turnLeft_1 := dk_seg dksX24_turnLeft_0 24 rfl rfl
theorem dksX24_turnLeft_2 : cX24_turnLeft.data.toList.drop 46 = dktX24_turnLeft_2 := dk_seg dksX24_turnLeft_1 22 rfl rfl
theorem dX24_turnLeft_0 : decode cX24_turnLeft 0 = .ok (.aload_n 0, 1) := dk_42 (dk_at dksX24_turnLeft_0 0 rfl rfl)
theorem dX24_turnLeft_1 : decode cX24_turnLeft 1 = .ok (.getfield 22, 3) := dk_180 0 22 (dk_at dksX24_turnLeft_0 1 rfl rfl)
theorem dX24_turnLeft_4 : decode cX24_turnLeft 4 = .ok (.iload_n 1, 1) := dk_27 (dk_at dksX24_turnLeft_0 4 rfl rfl)
theorem dX24_turnLeft_5 : decode cX24_turnLeft 5 = .ok (.iaload, 1) := dk_46 (dk_at dksX24_turnLeft_0 5 rfl rfl)
theorem dX24_turnLeft_6 : decode cX24_turnLeft 6 = .ok (.istore_n 2, 1) := dk_61 (dk_at dksX24_turnLeft_0 6 rfl rfl)
theorem dX24_turnLeft_7 : decode cX24_turnLeft 7 = .ok (.aload_n 0, 1) := dk_42 (dk_at dksX24_turnLeft_0 7 rfl rfl)
theorem dX24_turnLeft_8 : decode cX24_turnLeft 8 = .ok (.getfield 22, 3) := dk_180 0 22 (dk_at dksX24_turnLeft_0 8 rfl rfl)
theorem dX24_turnLeft_11 : decode cX24_turnLeft 11 = .ok (.iload_n 1, 1) := dk_27 (dk_at dksX24_turnLeft_0 11 rfl rfl)
theorem dX24_turnLeft_12 : decode cX24_turnLeft 12 = .ok (.aload_n 0, 1) := dk_42 (dk_at dksX24_turnLeft_0 12 rfl rfl)
theorem dX24_turnLeft_13 : decode cX24_turnLeft 13 = .ok (.getfield 18, 3) := dk_180 0 18 (dk_at dksX24_turnLeft_0 13 rfl rfl)
theorem dX24_turnLeft_16 : decode cX24_turnLeft 16 = .ok (.iload_n 2, 1) := dk_28 (dk_at dksX24_turnLeft_0 16 rfl rfl)
theorem dX24_turnLeft_17 : decode cX24_turnLeft 17 = .ok (.iaload, 1) := dk_46 (dk_at dksX24_turnLeft_0 17 rfl rfl)
theorem dX24_turnLeft_18 : decode cX24_turnLeft 18 = .ok (.iastore, 1) := dk_79 (dk_at dksX24_turnLeft_0 18 rfl rfl)
theorem dX24_turnLeft_19 : decode cX24_turnLeft 19 = .ok (.aload_n 0, 1) := dk_42 (dk_at dksX24_turnLeft_0 19 rfl rfl)
theorem dX24_turnLeft_20 : decode cX24_turnLeft 20 = .ok (.getfield 18, 3) := dk_180 0 18 (dk_at dksX24_turnLeft_0 20 rfl rfl)
theorem dX24_turnLeft_23 : decode cX24_turnLeft 23 = .ok (.iload_n 2, 1) := dk_28 (dk_at dksX24_turnLeft_0 23 rfl rfl)
theorem dX24_turnLeft_24 : decode cX24_turnLeft 24 = .ok (.iaload, 1) := dk_46 (dk_at dksX24_turnLeft_1 0 rfl rfl)
theorem dX24_turnLeft_25 : decode cX24_turnLeft 25 = .ok (.sipush 1000, 3) := dk_17 3 232 (dk_at dksX24_turnLeft_1 1 rfl rfl)
theorem dX24_turnLeft_28 : decode cX24_turnLeft 28 = .ok (.if_icmp .eq 15, 3) := dk_159 0 15 (dk_at dksX24_turnLeft_1 4 rfl rfl)
theorem dX24_turnLeft_31 : decode cX24_turnLeft 31 = .ok (.aload_n 0, 1) := dk_42 (dk_at dksX24_turnLeft_1 7 rfl rfl)
theorem dX24_turnLeft_32 : decode cX24_turnLeft 32 = .ok (.getfield 25, 3) := dk_180 0 25 (dk_at dksX24_turnLeft_1 8 rfl rfl)
theorem dX24_turnLeft_35 : decode cX24_turnLeft 35 = .ok (.aload_n 0, 1) := dk_42 (dk_at dksX24_turnLeft_1 11 rfl rfl)
theorem dX24_turnLeft_36 : decode cX24_turnLeft 36 = .ok (.getfield 18, 3) := dk_180 0 18 (dk_at dksX24_turnLeft_1 12 rfl rfl)
theorem dX24_turnLeft_39 : decode cX24_turnLeft 39 = .ok (.iload_n 2, 1) := dk_28 (dk_at dksX24_turnLeft_1 15 rfl rfl)
theorem dX24_turnLeft_40 : decode cX24_turnLeft 40 = .ok (.iaload, 1) := dk_46 (dk_at dksX24_turnLeft_1 16 rfl rfl)
theorem dX24_turnLeft_41 : decode cX24_turnLeft 41 = .ok (.iload_n 1, 1) := dk_27 (dk_at dksX24_turnLeft_1 17 rfl rfl)
theorem dX24_turnLeft_42 : decode cX24_turnLeft 42 = .ok (.iastore, 1) := dk_79 (dk_at dksX24_turnLeft_1 18 rfl rfl)
theorem dX24_turnLeft_43 : decode cX24_turnLeft 43 = .ok (.aload_n 0, 1) := dk_42 (dk_at dksX24_turnLeft_1 19 rfl rfl)
theorem dX24_turnLeft_44 : decode cX24_turnLeft 44 = .ok (.iload_n 1, 1) := dk_27 (dk_at dksX24_turnLeft_1 20 rfl rfl)
theorem dX24_turnLeft_45 : decode cX24_turnLeft 45 = .ok (.iload_n 2, 1) := dk_28 (dk_at dksX24_turnLeft_1 21 rfl rfl)
theorem dX24_turnLeft_46 : decode cX24_turnLeft 46 = .ok (.invokevirtual 78, 3) := dk_182 0 78 (dk_at dksX24_turnLeft_2 0 rfl rfl)
theorem dX24_turnLeft_49 : decode cX24_turnLeft 49 = .ok (.aload_n 0, 1) := dk_42 (dk_at dksX24_turnLeft_2 3 rfl rfl)
theorem dX24_turnLeft_50 : decode cX24_turnLeft 50 = .ok (.getfield 18, 3) := dk_180 0 18 (dk_at dksX24_turnLeft_2 4 rfl rfl)
theorem dX24_turnLeft_53 : decode cX24_turnLeft 53 = .ok (.iload_n 2, 1) := dk_28 (dk_at dksX24_turnLeft_2 7 rfl rfl)
theorem dX24_turnLeft_54 : decode cX24_turnLeft 54 = .ok (.iload_n 1, 1) := dk_27 (dk_at dksX24_turnLeft_2 8 rfl rfl)
theorem dX24_turnLeft_55 : decode cX24_turnLeft 55 = .ok (.iastore, 1) := dk_79 (dk_at dksX24_turnLeft_2 9 rfl rfl)
theorem dX24_turnLeft_56 : decode cX24_turnLeft 56 = .ok (.aload_n 0, 1) := dk_42 (dk_at dksX24_turnLeft_2 10 rfl rfl)
theorem dX24_turnLeft_57 : decode cX24_turnLeft 57 = .ok (.getfield 25, 3) := dk_180 0 25 (dk_at dksX24_turnLeft_2 11 rfl rfl)
theorem dX24_turnLeft_60 : decode cX24_turnLeft 60 = .ok (.iload_n 1, 1) := dk_27 (dk_at dksX24_turnLeft_2 14 rfl rfl)
theorem dX24_turnLeft_61 : decode cX24_turnLeft 61 = .ok (.iload_n 2, 1) := dk_28 (dk_at dksX24_turnLeft_2 15 rfl rfl)
theorem dX24_turnLeft_62 : decode cX24_turnLeft 62 = .ok (.iastore, 1) := dk_79 (dk_at dksX24_turnLeft_2 16 rfl rfl)
theorem dX24_turnLeft_63 : decode cX24_turnLeft 63 = .ok (.return_, 1) := dk_177 (dk_at dksX24_turnLeft_2 17 rfl rfl)
abbrev cX24_hang : ByteArray := prog_35_method_22_code
def yX24_hang : MethodName := ⟨RX24, "hang", "(II)V"⟩
def dkwX24_hang_2 : List UInt8 := [167, 0, 10, 42, 180, 0, 22, 29, 28, 79, 177]
abbrev dktX24_hang_2 : List UInt8 := dkwX24_hang_2 ++ []
def dkwX24_hang_1 : List UInt8 := [181, 0, 36, 167, 0, 30, 42, 180, 0, 18, 29, 46, 27, 160, 0, 13, 42, 180, 0, 18, 29, 28, 79]
abbrev dktX24_hang_1 : List UInt8 := dkwX24_hang_1 ++ dktX24_hang_2
def dkwX24_hang_0 : List UInt8 := [42, 180, 0, 25, 27, 46, 62, 42, 180, 0, 25, 28, 29, 79, 29, 17, 3, 232, 160, 0, 11, 42, 28]
abbrev dktX24_hang_0 : List UInt8 := dkwX24_hang_0 ++ dktX24_hang_1
theorem dksX24_hang_0 : cX24_hang.data.toList.drop 0 = dktX24_hang_0 := by decide +kernel
theorem dksX24_hang_1 : cX24_hang.data.toList.drop 23 = dktX24_hang_1 := dk_seg dksX24_hang_0 23 rfl rfl
theorem dksX24_hang_2 : cX24_hang.data.toList.drop 46 = dktX24_hang_2 := dk_seg dksX24_hang_1 23 rfl rfl
theorem dX24_hang_0 : decode cX24_hang 0 = .ok (.aload_n 0, 1) := dk_42 (dk_at dksX24_hang_0 0 rfl rfl)
theorem dX24_hang_1 : decode cX24_hang 1 = .ok (.getfield 25, 3) := dk_180 0 25 (dk_at dksX24_hang_0 1 rfl rfl)
theorem dX24_hang_4 : decode cX24_hang 4 = .ok (.iload_n 1, 1) := dk_27 (dk_at dksX24_hang_0 4 rfl rfl)
theorem dX24_hang_5 : decode cX24_hang 5 = .ok (.iaload, 1) := dk_46 (dk_at dksX24_hang_0 5 rfl rfl)
theorem dX24_hang_6 : decode cX24_hang 6 = .ok (.istore_n 3, 1) := dk_62 (dk_at dksX24_hang_0 6 rfl rfl)
theorem dX24_hang_7 : decode cX24_hang 7 = .ok (.aload_n 0, 1) := dk_42 (dk_at dksX24_hang_0 7 rfl rfl)
theorem dX24_hang_8 : decode cX24_hang 8 = .ok (.getfield 25, 3) := dk_180 0 25 (dk_at dksX24_hang_0 8 rfl rfl)
theorem dX24_hang_11 : decode cX24_hang 11 = .ok (.iload_n 2, 1) := dk_28 (dk_at dksX24_hang_0 11 rfl rfl)
theorem dX24_hang_12 : decode cX24_hang 12 = .ok (.iload_n 3, 1) := dk_29 (dk_at dksX24_hang_0 12 rfl rfl)
theorem dX24_hang_13 : decode cX24_hang 13 = .ok (.iastore, 1) := dk_79 (dk_at dksX24_hang_0 13 rfl rfl)
theorem dX24_hang_14 : decode cX24_hang 14 = .ok (.iload_n 3, 1) := dk_29 (dk_at dksX24_hang_0 14 rfl rfl)
theorem dX24_hang_15 : decode cX24_hang 15 = .ok (.sipush 1000, 3) := dk_17 3 232 (dk_at dksX24_hang_0 15 rfl rfl)
theorem dX24_hang_18 : decode cX24_hang 18 = .ok (.if_icmp .ne 11, 3) := dk_160 0 11 (dk_at dksX24_hang_0 18 rfl rfl)
theorem dX24_hang_21 : decode cX24_hang 21 = .ok (.aload_n 0, 1) := dk_42 (dk_at dksX24_hang_0 21 rfl rfl)
theorem dX24_hang_22 : decode cX24_hang 22 = .ok (.iload_n 2, 1) := dk_28 (dk_at dksX24_hang_0 22 rfl rfl)
theorem dX24_hang_23 : decode cX24_hang 23 = .ok (.putfield 36, 3) := dk_181 0 36 (dk_at dksX24_hang_1 0 rfl rfl)
theorem dX24_hang_26 : decode cX24_hang 26 = .ok (.goto 30, 3) := dk_167 0 30 (dk_at dksX24_hang_1 3 rfl rfl)
theorem dX24_hang_29 : decode cX24_hang 29 = .ok (.aload_n 0, 1) := dk_42 (dk_at dksX24_hang_1 6 rfl rfl)
theorem dX24_hang_30 : decode cX24_hang 30 = .ok (.getfield 18, 3) := dk_180 0 18 (dk_at dksX24_hang_1 7 rfl rfl)
theorem dX24_hang_33 : decode cX24_hang 33 = .ok (.iload_n 3, 1) := dk_29 (dk_at dksX24_hang_1 10 rfl rfl)
theorem dX24_hang_34 : decode cX24_hang 34 = .ok (.iaload, 1) := dk_46 (dk_at dksX24_hang_1 11 rfl rfl)
theorem dX24_hang_35 : decode cX24_hang 35 = .ok (.iload_n 1, 1) := dk_27 (dk_at dksX24_hang_1 12 rfl rfl)
theorem dX24_hang_36 : decode cX24_hang 36 = .ok (.if_icmp .ne 13, 3) := dk_160 0 13 (dk_at dksX24_hang_1 13 rfl rfl)
theorem dX24_hang_39 : decode cX24_hang 39 = .ok (.aload_n 0, 1) := dk_42 (dk_at dksX24_hang_1 16 rfl rfl)
theorem dX24_hang_40 : decode cX24_hang 40 = .ok (.getfield 18, 3) := dk_180 0 18 (dk_at dksX24_hang_1 17 rfl rfl)
theorem dX24_hang_43 : decode cX24_hang 43 = .ok (.iload_n 3, 1) := dk_29 (dk_at dksX24_hang_1 20 rfl rfl)
theorem dX24_hang_44 : decode cX24_hang 44 = .ok (.iload_n 2, 1) := dk_28 (dk_at dksX24_hang_1 21 rfl rfl)
theorem dX24_hang_45 : decode cX24_hang 45 = .ok (.iastore, 1) := dk_79 (dk_at dksX24_hang_1 22 rfl rfl)
theorem dX24_hang_46 : decode cX24_hang 46 = .ok (.goto 10, 3) := dk_167 0 10 (dk_at dksX24_hang_2 0 rfl rfl)
theorem dX24_hang_49 : decode cX24_hang 49 = .ok (.aload_n 0, 1) := dk_42 (dk_at dksX24_hang_2 3 rfl rfl)
theorem dX24_hang_50 : decode cX24_hang 50 = .ok (.getfield 22, 3) := dk_180 0 22 (dk_at dksX24_hang_2 4 rfl rfl)
theorem dX24_hang_53 : decode cX24_hang 53 = .ok (.iload_n 3, 1) := dk_29 (dk_at dksX24_hang_2 7 rfl rfl)
theorem dX24_hang_54 : decode cX24_hang 54 = .ok (.iload_n 2, 1) := dk_28 (dk_at dksX24_hang_2 8 rfl rfl)
theorem dX24_hang_55 : decode cX24_hang 55 = .ok (.iastore, 1) := dk_79 (dk_at dksX24_hang_2 9 rfl rfl)
theorem dX24_hang_56 : decode cX24_hang 56 = .ok (.return_, 1) := dk_177 (dk_at dksX24_hang_2 10 rfl rfl)
abbrev cX24_turnRight : ByteArray := prog_35_method_21_code
def yX24_turnRight : MethodName := ⟨RX24, "turnRight", "(I)V"⟩
def dkwX24_turnRight_2 : List UInt8 := [182, 0, 78, 42, 180, 0, 22, 28, 27, 79, 42, 180, 0, 25, 27, 28, 79, 177]
abbrev dktX24_turnRight_2 : List UInt8 := dkwX24_turnRight_2 ++ []
def dkwX24_turnRight_1 : List UInt8 := [46, 17, 3, 232, 159, 0, 15, 42, 180, 0, 25, 42, 180, 0, 22, 28, 46, 27, 79, 42, 27, 28]
abbrev dktX24_turnRight_1 : List UInt8 := dkwX24_turnRight_1 ++ dktX24_turnRight_2
def dkwX24_turnRight_0 : List UInt8 := [42, 180, 0, 18, 27, 46, 61, 42, 180, 0, 18, 27, 42, 180, 0, 22, 28, 46, 79, 42, 180, 0, 22, 28]
abbrev dktX24_turnRight_0 : List UInt8 := dkwX24_turnRight_0 ++ dktX24_turnRight_1
theorem dksX24_turnRight_0 : cX24_turnRight.data.toList.drop 0 = dktX24_turnRight_0 := by decide +kernel
theorem dksX24_turnRight_1 : cX24_turnRight.data.toList.drop 24 = dktX24_turnRight_1 := dk_seg dksX24_turnRight_0 24 rfl rfl
theorem dksX24_turnRight_2 : cX24_turnRight.data.toList.drop 46 = dktX24_turnRight_2 := dk_seg dksX24_turnRight_1 22 rfl rfl
theorem dX24_turnRight_0 : decode cX24_turnRight 0 = .ok (.aload_n 0, 1) := dk_42 (dk_at dksX24_turnRight_0 0 rfl rfl)
theorem dX24_turnRight_1 : decode cX24_turnRight 1 = .ok (.getfield 18, 3) := dk_180 0 18 (dk_at dksX24_turnRight_0 1 rfl rfl)
theorem dX24_turnRight_4 : decode cX24_turnRight 4 = .ok (.iload_n 1, 1) := dk_27 (dk_at dksX24_turnRight_0 4 rfl rfl)
theorem dX24_turnRight_5 : decode cX24_turnRight 5 = .ok (.iaload, 1) := dk_46 (dk_at dksX24_turnRight_0 5 rfl rfl)
theorem dX24_turnRight_6 : decode cX24_turnRight 6 = .ok (.istore_n 2, 1) := dk_61 (dk_at dksX24_turnRight_0 6 rfl rfl)
theorem dX24_turnRight_7 : decode cX24_turnRight 7 = .ok (.aload_n 0, 1) := dk_42 (dk_at dksX24_turnRight_0 7 rfl rfl)
theorem dX24_turnRight_8 : decode cX24_turnRight 8 = .ok (.getfield 18, 3) := dk_180 0 18 (dk_at dksX24_turnRight_0 8 rfl rfl)
theorem dX24_turnRight_11 : decode cX24_turnRight 11 = .ok (.iload_n 1, 1) := dk_27 (dk_at dksX24_turnRight_0 11 rfl rfl)
theorem dX24_turnRight_12 : decode cX24_turnRight 12 = .ok (.aload_n 0, 1) := dk_42 (dk_at dksX24_turnRight_0 12 rfl rfl)
theorem dX24_turnRight_13 : decode cX24_turnRight 13 = .ok (.getfield 22, 3) := dk_180 0 22 (dk_at dksX24_turnRight_0 13 rfl rfl)
theorem dX24_turnRight_16 : decode cX24_turnRight 16 = .ok (.iload_n 2, 1) := dk_28 (dk_at dksX24_turnRight_0 16 rfl rfl)
theorem dX24_turnRight_17 : decode cX24_turnRight 17 = .ok (.iaload, 1) := dk_46 (dk_at dksX24_turnRight_0 17 rfl rfl)
theorem dX24_turnRight_18 : decode cX24_turnRight 18 = .ok (.iastore, 1) := dk_79 (dk_at dksX24_turnRight_0 18 rfl rfl)
theorem dX24_turnRight_19 : decode cX24_turnRight 19 = .ok (.aload_n 0, 1) := dk_42 (dk_at dksX24_turnRight_0 19 rfl rfl)
theorem dX24_turnRight_20 : decode cX24_turnRight 20 = .ok (.getfield 22, 3) := dk_180 0 22 (dk_at dksX24_turnRight_0 20 rfl rfl)
theorem dX24_turnRight_23 : decode cX24_turnRight 23 = .ok (.iload_n 2, 1) := dk_28 (dk_at dksX24_turnRight_0 23 rfl rfl)
theorem dX24_turnRight_24 : decode cX24_turnRight 24 = .ok (.iaload, 1) := dk_46 (dk_at dksX24_turnRight_1 0 rfl rfl)
theorem dX24_turnRight_25 : decode cX24_turnRight 25 = .ok (.sipush 1000, 3) := dk_17 3 232 (dk_at dksX24_turnRight_1 1 rfl rfl)
theorem dX24_turnRight_28 : decode cX24_turnRight 28 = .ok (.if_icmp .eq 15, 3) := dk_159 0 15 (dk_at dksX24_turnRight_1 4 rfl rfl)
theorem dX24_turnRight_31 : decode cX24_turnRight 31 = .ok (.aload_n 0, 1) := dk_42 (dk_at dksX24_turnRight_1 7 rfl rfl)
theorem dX24_turnRight_32 : decode cX24_turnRight 32 = .ok (.getfield 25, 3) := dk_180 0 25 (dk_at dksX24_turnRight_1 8 rfl rfl)
theorem dX24_turnRight_35 : decode cX24_turnRight 35 = .ok (.aload_n 0, 1) := dk_42 (dk_at dksX24_turnRight_1 11 rfl rfl)
theorem dX24_turnRight_36 : decode cX24_turnRight 36 = .ok (.getfield 22, 3) := dk_180 0 22 (dk_at dksX24_turnRight_1 12 rfl rfl)
theorem dX24_turnRight_39 : decode cX24_turnRight 39 = .ok (.iload_n 2, 1) := dk_28 (dk_at dksX24_turnRight_1 15 rfl rfl)
theorem dX24_turnRight_40 : decode cX24_turnRight 40 = .ok (.iaload, 1) := dk_46 (dk_at dksX24_turnRight_1 16 rfl rfl)
theorem dX24_turnRight_41 : decode cX24_turnRight 41 = .ok (.iload_n 1, 1) := dk_27 (dk_at dksX24_turnRight_1 17 rfl rfl)
theorem dX24_turnRight_42 : decode cX24_turnRight 42 = .ok (.iastore, 1) := dk_79 (dk_at dksX24_turnRight_1 18 rfl rfl)
theorem dX24_turnRight_43 : decode cX24_turnRight 43 = .ok (.aload_n 0, 1) := dk_42 (dk_at dksX24_turnRight_1 19 rfl rfl)
theorem dX24_turnRight_44 : decode cX24_turnRight 44 = .ok (.iload_n 1, 1) := dk_27 (dk_at dksX24_turnRight_1 20 rfl rfl)
theorem dX24_turnRight_45 : decode cX24_turnRight 45 = .ok (.iload_n 2, 1) := dk_28 (dk_at dksX24_turnRight_1 21 rfl rfl)
theorem dX24_turnRight_46 : decode cX24_turnRight 46 = .ok (.invokevirtual 78, 3) := dk_182 0 78 (dk_at dksX24_turnRight_2 0 rfl rfl)
theorem dX24_turnRight_49 : decode cX24_turnRight 49 = .ok (.aload_n 0, 1) := dk_42 (dk_at dksX24_turnRight_2 3 rfl rfl)
theorem dX24_turnRight_50 : decode cX24_turnRight 50 = .ok (.getfield 22, 3) := dk_180 0 22 (dk_at dksX24_turnRight_2 4 rfl rfl)
theorem dX24_turnRight_53 : decode cX24_turnRight 53 = .ok (.iload_n 2, 1) := dk_28 (dk_at dksX24_turnRight_2 7 rfl rfl)
theorem dX24_turnRight_54 : decode cX24_turnRight 54 = .ok (.iload_n 1, 1) := dk_27 (dk_at dksX24_turnRight_2 8 rfl rfl)
theorem dX24_turnRight_55 : decode cX24_turnRight 55 = .ok (.iastore, 1) := dk_79 (dk_at dksX24_turnRight_2 9 rfl rfl)
theorem dX24_turnRight_56 : decode cX24_turnRight 56 = .ok (.aload_n 0, 1) := dk_42 (dk_at dksX24_turnRight_2 10 rfl rfl)
theorem dX24_turnRight_57 : decode cX24_turnRight 57 = .ok (.getfield 25, 3) := dk_180 0 25 (dk_at dksX24_turnRight_2 11 rfl rfl)
theorem dX24_turnRight_60 : decode cX24_turnRight 60 = .ok (.iload_n 1, 1) := dk_27 (dk_at dksX24_turnRight_2 14 rfl rfl)
theorem dX24_turnRight_61 : decode cX24_turnRight 61 = .ok (.iload_n 2, 1) := dk_28 (dk_at dksX24_turnRight_2 15 rfl rfl)
theorem dX24_turnRight_62 : decode cX24_turnRight 62 = .ok (.iastore, 1) := dk_79 (dk_at dksX24_turnRight_2 16 rfl rfl)
theorem dX24_turnRight_63 : decode cX24_turnRight 63 = .ok (.return_, 1) := dk_177 (dk_at dksX24_turnRight_2 17 rfl rfl)
abbrev cX24_remove : ByteArray := prog_35_method_25_code
def yX24_remove : MethodName := ⟨RX24, "remove", "(I)V"⟩
def dkwX24_remove_9 : List UInt8 := [42, 89, 180, 0, 43, 4, 96, 181, 0, 43, 177]
abbrev dktX24_remove_9 : List UInt8 := dkwX24_remove_9 ++ []
def dkwX24_remove_8 : List UInt8 := [180, 0, 28, 27, 51, 84, 29, 154, 0, 9, 42, 21, 4, 182, 0, 94, 42, 180, 0, 12, 27, 182, 0, 97]
abbrev dktX24_remove_8 : List UInt8 := dkwX24_remove_8 ++ dktX24_remove_9
def dkwX24_remove_7 : List UInt8 := [180, 0, 18, 27, 46, 79, 42, 180, 0, 25, 42, 180, 0, 18, 28, 46, 28, 79, 42, 180, 0, 28, 28, 42]
abbrev dktX24_remove_7 : List UInt8 := dkwX24_remove_7 ++ dktX24_remove_8
def dkwX24_remove_6 : List UInt8 := [180, 0, 25, 42, 180, 0, 22, 28, 46, 28, 79, 42, 27, 28, 182, 0, 78, 42, 180, 0, 18, 28, 42]
abbrev dktX24_remove_6 : List UInt8 := dkwX24_remove_6 ++ dktX24_remove_7
def dkwX24_remove_5 : List UInt8 := [79, 167, 0, 34, 42, 28, 21, 4, 182, 0, 78, 42, 180, 0, 22, 28, 42, 180, 0, 22, 27, 46, 79, 42]
abbrev dktX24_remove_5 : List UInt8 := dkwX24_remove_5 ++ dktX24_remove_6
def dkwX24_remove_4 : List UInt8 := [180, 0, 22, 28, 46, 54, 4, 42, 180, 0, 25, 28, 46, 27, 160, 0, 14, 42, 180, 0, 25, 21, 4, 28]
abbrev dktX24_remove_4 : List UInt8 := dkwX24_remove_4 ++ dktX24_remove_5
def dkwX24_remove_3 : List UInt8 := [167, 0, 123, 42, 42, 180, 0, 22, 27, 46, 182, 0, 61, 61, 42, 180, 0, 28, 28, 51, 62, 42]
abbrev dktX24_remove_3 : List UInt8 := dkwX24_remove_3 ++ dktX24_remove_4
def dkwX24_remove_2 : List UInt8 := [180, 0, 22, 27, 46, 167, 0, 9, 42, 180, 0, 18, 27, 46, 54, 4, 42, 27, 21, 4, 182, 0, 78]
abbrev dktX24_remove_2 : List UInt8 := dkwX24_remove_2 ++ dktX24_remove_3
def dkwX24_remove_1 : List UInt8 := [180, 0, 22, 27, 46, 17, 3, 232, 160, 0, 42, 42, 180, 0, 18, 27, 46, 17, 3, 232, 160, 0, 12, 42]
abbrev dktX24_remove_1 : List UInt8 := dkwX24_remove_1 ++ dktX24_remove_2
def dkwX24_remove_0 : List UInt8 := [27, 61, 42, 180, 0, 28, 28, 51, 62, 42, 180, 0, 18, 27, 46, 17, 3, 232, 159, 0, 15, 42]
abbrev dktX24_remove_0 : List UInt8 := dkwX24_remove_0 ++ dktX24_remove_1
theorem dksX24_remove_0 : cX24_remove.data.toList.drop 0 = dktX24_remove_0 := by decide +kernel
theorem dksX24_remove_1 : cX24_remove.data.toList.drop 22 = dktX24_remove_1 := dk_seg dksX24_remove_0 22 rfl rfl
theorem dksX24_remove_2 : cX24_remove.data.toList.drop 46 = dktX24_remove_2 := dk_seg dksX24_remove_1 24 rfl rfl
theorem dksX24_remove_3 : cX24_remove.data.toList.drop 69 = dktX24_remove_3 := dk_seg dksX24_remove_2 23 rfl rfl
theorem dksX24_remove_4 : cX24_remove.data.toList.drop 91 = dktX24_remove_4 := dk_seg dksX24_remove_3 22 rfl rfl
theorem dksX24_remove_5 : cX24_remove.data.toList.drop 115 = dktX24_remove_5 := dk_seg dksX24_remove_4 24 rfl rfl
theorem dksX24_remove_6 : cX24_remove.data.toList.drop 139 = dktX24_remove_6 := dk_seg dksX24_remove_5 24 rfl rfl
theorem dksX24_remove_7 : cX24_remove.data.toList.drop 162 = dktX24_remove_7 := dk_seg dksX24_remove_6 23 rfl rfl
theorem dksX24_remove_8 : cX24_remove.data.toList.drop 186 = dktX24_remove_8 := dk_seg dksX24_remove_7 24 rfl rfl
theorem dksX24_remove_9 : cX24_remove.data.toList.drop 210 = dktX24_remove_9 := dk_seg dksX24_remove_8 24 rfl rfl
theorem dX24_remove_0 : decode cX24_remove 0 = .ok (.iload_n 1, 1) := dk_27 (dk_at dksX24_remove_0 0 rfl rfl)
theorem dX24_remove_1 : decode cX24_remove 1 = .ok (.istore_n 2, 1) := dk_61 (dk_at dksX24_remove_0 1 rfl rfl)
theorem dX24_remove_2 : decode cX24_remove 2 = .ok (.aload_n 0, 1) := dk_42 (dk_at dksX24_remove_0 2 rfl rfl)
theorem dX24_remove_3 : decode cX24_remove 3 = .ok (.getfield 28, 3) := dk_180 0 28 (dk_at dksX24_remove_0 3 rfl rfl)
theorem dX24_remove_6 : decode cX24_remove 6 = .ok (.iload_n 2, 1) := dk_28 (dk_at dksX24_remove_0 6 rfl rfl)
theorem dX24_remove_7 : decode cX24_remove 7 = .ok (.baload, 1) := dk_51 (dk_at dksX24_remove_0 7 rfl rfl)
theorem dX24_remove_8 : decode cX24_remove 8 = .ok (.istore_n 3, 1) := dk_62 (dk_at dksX24_remove_0 8 rfl rfl)
theorem dX24_remove_9 : decode cX24_remove 9 = .ok (.aload_n 0, 1) := dk_42 (dk_at dksX24_remove_0 9 rfl rfl)
theorem dX24_remove_10 : decode cX24_remove 10 = .ok (.getfield 18, 3) := dk_180 0 18 (dk_at dksX24_remove_0 10 rfl rfl)
theorem dX24_remove_13 : decode cX24_remove 13 = .ok (.iload_n 1, 1) := dk_27 (dk_at dksX24_remove_0 13 rfl rfl)
theorem dX24_remove_14 : decode cX24_remove 14 = .ok (.iaload, 1) := dk_46 (dk_at dksX24_remove_0 14 rfl rfl)
theorem dX24_remove_15 : decode cX24_remove 15 = .ok (.sipush 1000, 3) := dk_17 3 232 (dk_at dksX24_remove_0 15 rfl rfl)
theorem dX24_remove_18 : decode cX24_remove 18 = .ok (.if_icmp .eq 15, 3) := dk_159 0 15 (dk_at dksX24_remove_0 18 rfl rfl)
theorem dX24_remove_21 : decode cX24_remove 21 = .ok (.aload_n 0, 1) := dk_42 (dk_at dksX24_remove_0 21 rfl rfl)
theorem dX24_remove_22 : decode cX24_remove 22 = .ok (.getfield 22, 3) := dk_180 0 22 (dk_at dksX24_remove_1 0 rfl rfl)
theorem dX24_remove_25 : decode cX24_remove 25 = .ok (.iload_n 1, 1) := dk_27 (dk_at dksX24_remove_1 3 rfl rfl)
theorem dX24_remove_26 : decode cX24_remove 26 = .ok (.iaload, 1) := dk_46 (dk_at dksX24_remove_1 4 rfl rfl)
theorem dX24_remove_27 : decode cX24_remove 27 = .ok (.sipush 1000, 3) := dk_17 3 232 (dk_at dksX24_remove_1 5 rfl rfl)
theorem dX24_remove_30 : decode cX24_remove 30 = .ok (.if_icmp .ne 42, 3) := dk_160 0 42 (dk_at dksX24_remove_1 8 rfl rfl)
theorem dX24_remove_33 : decode cX24_remove 33 = .ok (.aload_n 0, 1) := dk_42 (dk_at dksX24_remove_1 11 rfl rfl)
theorem dX24_remove_34 : decode cX24_remove 34 = .ok (.getfield 18, 3) := dk_180 0 18 (dk_at dksX24_remove_1 12 rfl rfl)
theorem dX24_remove_37 : decode cX24_remove 37 = .ok (.iload_n 1, 1) := dk_27 (dk_at dksX24_remove_1 15 rfl rfl)
theorem dX24_remove_38 : decode cX24_remove 38 = .ok (.iaload, 1) := dk_46 (dk_at dksX24_remove_1 16 rfl rfl)
theorem dX24_remove_39 : decode cX24_remove 39 = .ok (.sipush 1000, 3) := dk_17 3 232 (dk_at dksX24_remove_1 17 rfl rfl)
theorem dX24_remove_42 : decode cX24_remove 42 = .ok (.if_icmp .ne 12, 3) := dk_160 0 12 (dk_at dksX24_remove_1 20 rfl rfl)
theorem dX24_remove_45 : decode cX24_remove 45 = .ok (.aload_n 0, 1) := dk_42 (dk_at dksX24_remove_1 23 rfl rfl)
theorem dX24_remove_46 : decode cX24_remove 46 = .ok (.getfield 22, 3) := dk_180 0 22 (dk_at dksX24_remove_2 0 rfl rfl)
theorem dX24_remove_49 : decode cX24_remove 49 = .ok (.iload_n 1, 1) := dk_27 (dk_at dksX24_remove_2 3 rfl rfl)
theorem dX24_remove_50 : decode cX24_remove 50 = .ok (.iaload, 1) := dk_46 (dk_at dksX24_remove_2 4 rfl rfl)
theorem dX24_remove_51 : decode cX24_remove 51 = .ok (.goto 9, 3) := dk_167 0 9 (dk_at dksX24_remove_2 5 rfl rfl)
theorem dX24_remove_54 : decode cX24_remove 54 = .ok (.aload_n 0, 1) := dk_42 (dk_at dksX24_remove_2 8 rfl rfl)
theorem dX24_remove_55 : decode cX24_remove 55 = .ok (.getfield 18, 3) := dk_180 0 18 (dk_at dksX24_remove_2 9 rfl rfl)
theorem dX24_remove_58 : decode cX24_remove 58 = .ok (.iload_n 1, 1) := dk_27 (dk_at dksX24_remove_2 12 rfl rfl)
theorem dX24_remove_59 : decode cX24_remove 59 = .ok (.iaload, 1) := dk_46 (dk_at dksX24_remove_2 13 rfl rfl)
theorem dX24_remove_60 : decode cX24_remove 60 = .ok (.istore 4, 2) := dk_54 4 (dk_at dksX24_remove_2 14 rfl rfl)
theorem dX24_remove_62 : decode cX24_remove 62 = .ok (.aload_n 0, 1) := dk_42 (dk_at dksX24_remove_2 16 rfl rfl)
theorem dX24_remove_63 : decode cX24_remove 63 = .ok (.iload_n 1, 1) := dk_27 (dk_at dksX24_remove_2 17 rfl rfl)
theorem dX24_remove_64 : decode cX24_remove 64 = .ok (.iload 4, 2) := dk_21 4 (dk_at dksX24_remove_2 18 rfl rfl)
theorem dX24_remove_66 : decode cX24_remove 66 = .ok (.invokevirtual 78, 3) := dk_182 0 78 (dk_at dksX24_remove_2 20 rfl rfl)
theorem dX24_remove_69 : decode cX24_remove 69 = .ok (.goto 123, 3) := dk_167 0 123 (dk_at dksX24_remove_3 0 rfl rfl)
theorem dX24_remove_72 : decode cX24_remove 72 = .ok (.aload_n 0, 1) := dk_42 (dk_at dksX24_remove_3 3 rfl rfl)
theorem dX24_remove_73 : decode cX24_remove 73 = .ok (.aload_n 0, 1) := dk_42 (dk_at dksX24_remove_3 4 rfl rfl)
theorem dX24_remove_74 : decode cX24_remove 74 = .ok (.getfield 22, 3) := dk_180 0 22 (dk_at dksX24_remove_3 5 rfl rfl)
theorem dX24_remove_77 : decode cX24_remove 77 = .ok (.iload_n 1, 1) := dk_27 (dk_at dksX24_remove_3 8 rfl rfl)
theorem dX24_remove_78 : decode cX24_remove 78 = .ok (.iaload, 1) := dk_46 (dk_at dksX24_remove_3 9 rfl rfl)
theorem dX24_remove_79 : decode cX24_remove 79 = .ok (.invokevirtual 61, 3) := dk_182 0 61 (dk_at dksX24_remove_3 10 rfl rfl)
theorem dX24_remove_82 : decode cX24_remove 82 = .ok (.istore_n 2, 1) := dk_61 (dk_at dksX24_remove_3 13 rfl rfl)
theorem dX24_remove_83 : decode cX24_remove 83 = .ok (.aload_n 0, 1) := dk_42 (dk_at dksX24_remove_3 14 rfl rfl)
theorem dX24_remove_84 : decode cX24_remove 84 = .ok (.getfield 28, 3) := dk_180 0 28 (dk_at dksX24_remove_3 15 rfl rfl)
theorem dX24_remove_87 : decode cX24_remove 87 = .ok (.iload_n 2, 1) := dk_28 (dk_at dksX24_remove_3 18 rfl rfl)
theorem dX24_remove_88 : decode cX24_remove 88 = .ok (.baload, 1) := dk_51 (dk_at dksX24_remove_3 19 rfl rfl)
theorem dX24_remove_89 : decode cX24_remove 89 = .ok (.istore_n 3, 1) := dk_62 (dk_at dksX24_remove_3 20 rfl rfl)
theorem dX24_remove_90 : decode cX24_remove 90 = .ok (.aload_n 0, 1) := dk_42 (dk_at dksX24_remove_3 21 rfl rfl)
theorem dX24_remove_91 : decode cX24_remove 91 = .ok (.getfield 22, 3) := dk_180 0 22 (dk_at dksX24_remove_4 0 rfl rfl)
theorem dX24_remove_94 : decode cX24_remove 94 = .ok (.iload_n 2, 1) := dk_28 (dk_at dksX24_remove_4 3 rfl rfl)
theorem dX24_remove_95 : decode cX24_remove 95 = .ok (.iaload, 1) := dk_46 (dk_at dksX24_remove_4 4 rfl rfl)
theorem dX24_remove_96 : decode cX24_remove 96 = .ok (.istore 4, 2) := dk_54 4 (dk_at dksX24_remove_4 5 rfl rfl)
theorem dX24_remove_98 : decode cX24_remove 98 = .ok (.aload_n 0, 1) := dk_42 (dk_at dksX24_remove_4 7 rfl rfl)
theorem dX24_remove_99 : decode cX24_remove 99 = .ok (.getfield 25, 3) := dk_180 0 25 (dk_at dksX24_remove_4 8 rfl rfl)
theorem dX24_remove_102 : decode cX24_remove 102 = .ok (.iload_n 2, 1) := dk_28 (dk_at dksX24_remove_4 11 rfl rfl)
theorem dX24_remove_103 : decode cX24_remove 103 = .ok (.iaload, 1) := dk_46 (dk_at dksX24_remove_4 12 rfl rfl)
theorem dX24_remove_104 : decode cX24_remove 104 = .ok (.iload_n 1, 1) := dk_27 (dk_at dksX24_remove_4 13 rfl rfl)
theorem dX24_remove_105 : decode cX24_remove 105 = .ok (.if_icmp .ne 14, 3) := dk_160 0 14 (dk_at dksX24_remove_4 14 rfl rfl)
theorem dX24_remove_108 : decode cX24_remove 108 = .ok (.aload_n 0, 1) := dk_42 (dk_at dksX24_remove_4 17 rfl rfl)
theorem dX24_remove_109 : decode cX24_remove 109 = .ok (.getfield 25, 3) := dk_180 0 25 (dk_at dksX24_remove_4 18 rfl rfl)
theorem dX24_remove_112 : decode cX24_remove 112 = .ok (.iload 4, 2) := dk_21 4 (dk_at dksX24_remove_4 21 rfl rfl)
theorem dX24_remove_114 : decode cX24_remove 114 = .ok (.iload_n 2, 1) := dk_28 (dk_at dksX24_remove_4 23 rfl rfl)
theorem dX24_remove_115 : decode cX24_remove 115 = .ok (.iastore, 1) := dk_79 (dk_at dksX24_remove_5 0 rfl rfl)
theorem dX24_remove_116 : decode cX24_remove 116 = .ok (.goto 34, 3) := dk_167 0 34 (dk_at dksX24_remove_5 1 rfl rfl)
theorem dX24_remove_119 : decode cX24_remove 119 = .ok (.aload_n 0, 1) := dk_42 (dk_at dksX24_remove_5 4 rfl rfl)
theorem dX24_remove_120 : decode cX24_remove 120 = .ok (.iload_n 2, 1) := dk_28 (dk_at dksX24_remove_5 5 rfl rfl)
theorem dX24_remove_121 : decode cX24_remove 121 = .ok (.iload 4, 2) := dk_21 4 (dk_at dksX24_remove_5 6 rfl rfl)
theorem dX24_remove_123 : decode cX24_remove 123 = .ok (.invokevirtual 78, 3) := dk_182 0 78 (dk_at dksX24_remove_5 8 rfl rfl)
theorem dX24_remove_126 : decode cX24_remove 126 = .ok (.aload_n 0, 1) := dk_42 (dk_at dksX24_remove_5 11 rfl rfl)
theorem dX24_remove_127 : decode cX24_remove 127 = .ok (.getfield 22, 3) := dk_180 0 22 (dk_at dksX24_remove_5 12 rfl rfl)
theorem dX24_remove_130 : decode cX24_remove 130 = .ok (.iload_n 2, 1) := dk_28 (dk_at dksX24_remove_5 15 rfl rfl)
theorem dX24_remove_131 : decode cX24_remove 131 = .ok (.aload_n 0, 1) := dk_42 (dk_at dksX24_remove_5 16 rfl rfl)
theorem dX24_remove_132 : decode cX24_remove 132 = .ok (.getfield 22, 3) := dk_180 0 22 (dk_at dksX24_remove_5 17 rfl rfl)
theorem dX24_remove_135 : decode cX24_remove 135 = .ok (.iload_n 1, 1) := dk_27 (dk_at dksX24_remove_5 20 rfl rfl)
theorem dX24_remove_136 : decode cX24_remove 136 = .ok (.iaload, 1) := dk_46 (dk_at dksX24_remove_5 21 rfl rfl)
theorem dX24_remove_137 : decode cX24_remove 137 = .ok (.iastore, 1) := dk_79 (dk_at dksX24_remove_5 22 rfl rfl)
theorem dX24_remove_138 : decode cX24_remove 138 = .ok (.aload_n 0, 1) := dk_42 (dk_at dksX24_remove_5 23 rfl rfl)
theorem dX24_remove_139 : decode cX24_remove 139 = .ok (.getfield 25, 3) := dk_180 0 25 (dk_at dksX24_remove_6 0 rfl rfl)
theorem dX24_remove_142 : decode cX24_remove 142 = .ok (.aload_n 0, 1) := dk_42 (dk_at dksX24_remove_6 3 rfl rfl)
theorem dX24_remove_143 : decode cX24_remove 143 = .ok (.getfield 22, 3) := dk_180 0 22 (dk_at dksX24_remove_6 4 rfl rfl)
theorem dX24_remove_146 : decode cX24_remove 146 = .ok (.iload_n 2, 1) := dk_28 (dk_at dksX24_remove_6 7 rfl rfl)
theorem dX24_remove_147 : decode cX24_remove 147 = .ok (.iaload, 1) := dk_46 (dk_at dksX24_remove_6 8 rfl rfl)
theorem dX24_remove_148 : decode cX24_remove 148 = .ok (.iload_n 2, 1) := dk_28 (dk_at dksX24_remove_6 9 rfl rfl)
theorem dX24_remove_149 : decode cX24_remove 149 = .ok (.iastore, 1) := dk_79 (dk_at dksX24_remove_6 10 rfl rfl)
theorem dX24_remove_150 : decode cX24_remove 150 = .ok (.aload_n 0, 1) := dk_42 (dk_at dksX24_remove_6 11 rfl rfl)
theorem dX24_remove_151 : decode cX24_remove 151 = .ok (.iload_n 1, 1) := dk_27 (dk_at dksX24_remove_6 12 rfl rfl)
theorem dX24_remove_152 : decode cX24_remove 152 = .ok (.iload_n 2, 1) := dk_28 (dk_at dksX24_remove_6 13 rfl rfl)
theorem dX24_remove_153 : decode cX24_remove 153 = .ok (.invokevirtual 78, 3) := dk_182 0 78 (dk_at dksX24_remove_6 14 rfl rfl)
theorem dX24_remove_156 : decode cX24_remove 156 = .ok (.aload_n 0, 1) := dk_42 (dk_at dksX24_remove_6 17 rfl rfl)
theorem dX24_remove_157 : decode cX24_remove 157 = .ok (.getfield 18, 3) := dk_180 0 18 (dk_at dksX24_remove_6 18 rfl rfl)
theorem dX24_remove_160 : decode cX24_remove 160 = .ok (.iload_n 2, 1) := dk_28 (dk_at dksX24_remove_6 21 rfl rfl)
theorem dX24_remove_161 : decode cX24_remove 161 = .ok (.aload_n 0, 1) := dk_42 (dk_at dksX24_remove_6 22 rfl rfl)
theorem dX24_remove_162 : decode cX24_remove 162 = .ok (.getfield 18, 3) := dk_180 0 18 (dk_at dksX24_remove_7 0 rfl rfl)
theorem dX24_remove_165 : decode cX24_remove 165 = .ok (.iload_n 1, 1) := dk_27 (dk_at dksX24_remove_7 3 rfl rfl)
theorem dX24_remove_166 : decode cX24_remove 166 = .ok (.iaload, 1) := dk_46 (dk_at dksX24_remove_7 4 rfl rfl)
theorem dX24_remove_167 : decode cX24_remove 167 = .ok (.iastore, 1) := dk_79 (dk_at dksX24_remove_7 5 rfl rfl)
theorem dX24_remove_168 : decode cX24_remove 168 = .ok (.aload_n 0, 1) := dk_42 (dk_at dksX24_remove_7 6 rfl rfl)
theorem dX24_remove_169 : decode cX24_remove 169 = .ok (.getfield 25, 3) := dk_180 0 25 (dk_at dksX24_remove_7 7 rfl rfl)
theorem dX24_remove_172 : decode cX24_remove 172 = .ok (.aload_n 0, 1) := dk_42 (dk_at dksX24_remove_7 10 rfl rfl)
theorem dX24_remove_173 : decode cX24_remove 173 = .ok (.getfield 18, 3) := dk_180 0 18 (dk_at dksX24_remove_7 11 rfl rfl)
theorem dX24_remove_176 : decode cX24_remove 176 = .ok (.iload_n 2, 1) := dk_28 (dk_at dksX24_remove_7 14 rfl rfl)
theorem dX24_remove_177 : decode cX24_remove 177 = .ok (.iaload, 1) := dk_46 (dk_at dksX24_remove_7 15 rfl rfl)
theorem dX24_remove_178 : decode cX24_remove 178 = .ok (.iload_n 2, 1) := dk_28 (dk_at dksX24_remove_7 16 rfl rfl)
theorem dX24_remove_179 : decode cX24_remove 179 = .ok (.iastore, 1) := dk_79 (dk_at dksX24_remove_7 17 rfl rfl)
theorem dX24_remove_180 : decode cX24_remove 180 = .ok (.aload_n 0, 1) := dk_42 (dk_at dksX24_remove_7 18 rfl rfl)
theorem dX24_remove_181 : decode cX24_remove 181 = .ok (.getfield 28, 3) := dk_180 0 28 (dk_at dksX24_remove_7 19 rfl rfl)
theorem dX24_remove_184 : decode cX24_remove 184 = .ok (.iload_n 2, 1) := dk_28 (dk_at dksX24_remove_7 22 rfl rfl)
theorem dX24_remove_185 : decode cX24_remove 185 = .ok (.aload_n 0, 1) := dk_42 (dk_at dksX24_remove_7 23 rfl rfl)
theorem dX24_remove_186 : decode cX24_remove 186 = .ok (.getfield 28, 3) := dk_180 0 28 (dk_at dksX24_remove_8 0 rfl rfl)
theorem dX24_remove_189 : decode cX24_remove 189 = .ok (.iload_n 1, 1) := dk_27 (dk_at dksX24_remove_8 3 rfl rfl)
theorem dX24_remove_190 : decode cX24_remove 190 = .ok (.baload, 1) := dk_51 (dk_at dksX24_remove_8 4 rfl rfl)
theorem dX24_remove_191 : decode cX24_remove 191 = .ok (.bastore, 1) := dk_84 (dk_at dksX24_remove_8 5 rfl rfl)
theorem dX24_remove_192 : decode cX24_remove 192 = .ok (.iload_n 3, 1) := dk_29 (dk_at dksX24_remove_8 6 rfl rfl)
theorem dX24_remove_193 : decode cX24_remove 193 = .ok (.ifCond .ne 9, 3) := dk_154 0 9 (dk_at dksX24_remove_8 7 rfl rfl)
theorem dX24_remove_196 : decode cX24_remove 196 = .ok (.aload_n 0, 1) := dk_42 (dk_at dksX24_remove_8 10 rfl rfl)
theorem dX24_remove_197 : decode cX24_remove 197 = .ok (.iload 4, 2) := dk_21 4 (dk_at dksX24_remove_8 11 rfl rfl)
theorem dX24_remove_199 : decode cX24_remove 199 = .ok (.invokevirtual 94, 3) := dk_182 0 94 (dk_at dksX24_remove_8 13 rfl rfl)
theorem dX24_remove_202 : decode cX24_remove 202 = .ok (.aload_n 0, 1) := dk_42 (dk_at dksX24_remove_8 16 rfl rfl)
theorem dX24_remove_203 : decode cX24_remove 203 = .ok (.getfield 12, 3) := dk_180 0 12 (dk_at dksX24_remove_8 17 rfl rfl)
theorem dX24_remove_206 : decode cX24_remove 206 = .ok (.iload_n 1, 1) := dk_27 (dk_at dksX24_remove_8 20 rfl rfl)
theorem dX24_remove_207 : decode cX24_remove 207 = .ok (.invokevirtual 97, 3) := dk_182 0 97 (dk_at dksX24_remove_8 21 rfl rfl)
theorem dX24_remove_210 : decode cX24_remove 210 = .ok (.aload_n 0, 1) := dk_42 (dk_at dksX24_remove_9 0 rfl rfl)
theorem dX24_remove_211 : decode cX24_remove 211 = .ok (.dup, 1) := dk_89 (dk_at dksX24_remove_9 1 rfl rfl)
theorem dX24_remove_212 : decode cX24_remove 212 = .ok (.getfield 43, 3) := dk_180 0 43 (dk_at dksX24_remove_9 2 rfl rfl)
theorem dX24_remove_215 : decode cX24_remove 215 = .ok (.iconst 1, 1) := dk_4 (dk_at dksX24_remove_9 5 rfl rfl)
theorem dX24_remove_216 : decode cX24_remove 216 = .ok (.iadd, 1) := dk_96 (dk_at dksX24_remove_9 6 rfl rfl)
theorem dX24_remove_217 : decode cX24_remove 217 = .ok (.putfield 43, 3) := dk_181 0 43 (dk_at dksX24_remove_9 7 rfl rfl)
theorem dX24_remove_220 : decode cX24_remove 220 = .ok (.return_, 1) := dk_177 (dk_at dksX24_remove_9 10 rfl rfl)
abbrev cX24_least : ByteArray := prog_35_method_8_code
def yX24_least : MethodName := ⟨RX24, "least", "(I)I"⟩
def dkwX24_least_1 : List UInt8 := [180, 0, 18, 28, 46, 61, 167, 255, 230, 28, 172]
abbrev dktX24_least_1 : List UInt8 := dkwX24_least_1 ++ []
def dkwX24_least_0 : List UInt8 := [27, 61, 28, 17, 3, 232, 159, 0, 25, 42, 180, 0, 18, 28, 46, 17, 3, 232, 159, 0, 13, 42]
abbrev dktX24_least_0 : List UInt8 := dkwX24_least_0 ++ dktX24_least_1
theorem dksX24_least_0 : cX24_least.data.toList.drop 0 = dktX24_least_0 := by decide +kernel
theorem dksX24_least_1 : cX24_least.data.toList.drop 22 = dktX24_least_1 := dk_seg dksX24_least_0 22 rfl rfl
theorem dX24_least_0 : decode cX24_least 0 = .ok (.iload_n 1, 1) := dk_27 (dk_at dksX24_least_0 0 rfl rfl)
theorem dX24_least_1 : decode cX24_least 1 = .ok (.istore_n 2, 1) := dk_61 (dk_at dksX24_least_0 1 rfl rfl)
theorem dX24_least_2 : decode cX24_least 2 = .ok (.iload_n 2, 1) := dk_28 (dk_at dksX24_least_0 2 rfl rfl)
theorem dX24_least_3 : decode cX24_least 3 = .ok (.sipush 1000, 3) := dk_17 3 232 (dk_at dksX24_least_0 3 rfl rfl)
theorem dX24_least_6 : decode cX24_least 6 = .ok (.if_icmp .eq 25, 3) := dk_159 0 25 (dk_at dksX24_least_0 6 rfl rfl)
theorem dX24_least_9 : decode cX24_least 9 = .ok (.aload_n 0, 1) := dk_42 (dk_at dksX24_least_0 9 rfl rfl)
theorem dX24_least_10 : decode cX24_least 10 = .ok (.getfield 18, 3) := dk_180 0 18 (dk_at dksX24_least_0 10 rfl rfl)
theorem dX24_least_13 : decode cX24_least 13 = .ok (.iload_n 2, 1) := dk_28 (dk_at dksX24_least_0 13 rfl rfl)
theorem dX24_least_14 : decode cX24_least 14 = .ok (.iaload, 1) := dk_46 (dk_at dksX24_least_0 14 rfl rfl)
theorem dX24_least_15 : decode cX24_least 15 = .ok (.sipush 1000, 3) := dk_17 3 232 (dk_at dksX24_least_0 15 rfl rfl)
theorem dX24_least_18 : decode cX24_least 18 = .ok (.if_icmp .eq 13, 3) := dk_159 0 13 (dk_at dksX24_least_0 18 rfl rfl)
theorem dX24_least_21 : decode cX24_least 21 = .ok (.aload_n 0, 1) := dk_42 (dk_at dksX24_least_0 21 rfl rfl)
theorem dX24_least_22 : decode cX24_least 22 = .ok (.getfield 18, 3) := dk_180 0 18 (dk_at dksX24_least_1 0 rfl rfl)
theorem dX24_least_25 : decode cX24_least 25 = .ok (.iload_n 2, 1) := dk_28 (dk_at dksX24_least_1 3 rfl rfl)
theorem dX24_least_26 : decode cX24_least 26 = .ok (.iaload, 1) := dk_46 (dk_at dksX24_least_1 4 rfl rfl)
theorem dX24_least_27 : decode cX24_least 27 = .ok (.istore_n 2, 1) := dk_61 (dk_at dksX24_least_1 5 rfl rfl)
theorem dX24_least_28 : decode cX24_least 28 = .ok (.goto (-26), 3) := dk_167 255 230 (dk_at dksX24_least_1 6 rfl rfl)
theorem dX24_least_31 : decode cX24_least 31 = .ok (.iload_n 2, 1) := dk_28 (dk_at dksX24_least_1 9 rfl rfl)
theorem dX24_least_32 : decode cX24_least 32 = .ok (.ireturn, 1) := dk_172 (dk_at dksX24_least_1 10 rfl rfl)
abbrev cX24_mendRemoved : ByteArray := prog_35_method_26_code
def yX24_mendRemoved : MethodName := ⟨RX24, "mendRemoved", "(I)V"⟩
def dkwX24_mendRemoved_11 : List UInt8 := [28, 3, 84, 177]
abbrev dktX24_mendRemoved_11 : List UInt8 := dkwX24_mendRemoved_11 ++ []
def dkwX24_mendRemoved_10 : List UInt8 := [29, 182, 0, 88, 167, 0, 8, 42, 29, 182, 0, 91, 42, 180, 0, 36, 61, 167, 255, 3, 42, 180, 0, 28]
abbrev dktX24_mendRemoved_10 : List UInt8 := dkwX24_mendRemoved_10 ++ dktX24_mendRemoved_11
def dkwX24_mendRemoved_9 : List UInt8 := [180, 0, 22, 21, 5, 46, 167, 0, 10, 42, 180, 0, 18, 21, 5, 46, 3, 84, 21, 4, 153, 0, 11, 42]
abbrev dktX24_mendRemoved_9 : List UInt8 := dkwX24_mendRemoved_9 ++ dktX24_mendRemoved_10
def dkwX24_mendRemoved_8 : List UInt8 := [42, 180, 0, 28, 29, 51, 84, 42, 180, 0, 28, 29, 3, 84, 42, 180, 0, 28, 21, 4, 153, 0, 13, 42]
abbrev dktX24_mendRemoved_8 : List UInt8 := dkwX24_mendRemoved_8 ++ dktX24_mendRemoved_9
def dkwX24_mendRemoved_7 : List UInt8 := [4, 84, 29, 61, 167, 255, 88, 42, 29, 21, 5, 21, 4, 182, 0, 100, 54, 5, 42, 180, 0, 28, 21, 5]
abbrev dktX24_mendRemoved_7 : List UInt8 := dkwX24_mendRemoved_7 ++ dktX24_mendRemoved_8
def dkwX24_mendRemoved_6 : List UInt8 := [154, 0, 31, 42, 180, 0, 28, 42, 180, 0, 22, 21, 5, 46, 51, 154, 0, 16, 42, 180, 0, 28, 21, 5]
abbrev dktX24_mendRemoved_6 : List UInt8 := dkwX24_mendRemoved_6 ++ dktX24_mendRemoved_7
def dkwX24_mendRemoved_5 : List UInt8 := [167, 0, 9, 42, 180, 0, 18, 29, 46, 54, 5, 42, 180, 0, 28, 42, 180, 0, 18, 21, 5, 46, 51]
abbrev dktX24_mendRemoved_5 : List UInt8 := dkwX24_mendRemoved_5 ++ dktX24_mendRemoved_6
def dkwX24_mendRemoved_4 : List UInt8 := [29, 182, 0, 88, 167, 0, 8, 42, 29, 182, 0, 91, 21, 4, 153, 0, 12, 42, 180, 0, 22, 29, 46]
abbrev dktX24_mendRemoved_4 : List UInt8 := dkwX24_mendRemoved_4 ++ dktX24_mendRemoved_5
def dkwX24_mendRemoved_3 : List UInt8 := [153, 0, 58, 42, 180, 0, 28, 21, 5, 3, 84, 42, 180, 0, 28, 29, 4, 84, 21, 4, 153, 0, 11, 42]
abbrev dktX24_mendRemoved_3 : List UInt8 := dkwX24_mendRemoved_3 ++ dktX24_mendRemoved_4
def dkwX24_mendRemoved_2 : List UInt8 := [42, 180, 0, 22, 29, 46, 167, 0, 9, 42, 180, 0, 18, 29, 46, 54, 5, 42, 180, 0, 28, 21, 5, 51]
abbrev dktX24_mendRemoved_2 : List UInt8 := dkwX24_mendRemoved_2 ++ dktX24_mendRemoved_3
def dkwX24_mendRemoved_1 : List UInt8 := [46, 62, 28, 42, 180, 0, 18, 29, 46, 160, 0, 7, 4, 167, 0, 4, 3, 54, 4, 21, 4, 153, 0, 12]
abbrev dktX24_mendRemoved_1 : List UInt8 := dkwX24_mendRemoved_1 ++ dktX24_mendRemoved_2
def dkwX24_mendRemoved_0 : List UInt8 := [27, 61, 28, 42, 180, 0, 36, 159, 0, 251, 42, 180, 0, 28, 28, 51, 154, 0, 242, 42, 180, 0, 25, 28]
abbrev dktX24_mendRemoved_0 : List UInt8 := dkwX24_mendRemoved_0 ++ dktX24_mendRemoved_1
theorem dksX24_mendRemoved_0 : cX24_mendRemoved.data.toList.drop 0 = dktX24_mendRemoved_0 := by decide +kernel
theorem dksX24_mendRemoved_1 : cX24_mendRemoved.data.toList.drop 24 = dktX24_mendRemoved_1 := dk_seg dksX24_mendRemoved_0 24 rfl rfl
theorem dksX24_mendRemoved_2 : cX24_mendRemoved.data.toList.drop 48 = dktX24_mendRemoved_2 := dk_seg dksX24_mendRemoved_1 24 rfl rfl
theorem dksX24_mendRemoved_3 : cX24_mendRemoved.data.toList.drop 72 = dktX24_mendRemoved_3 := dk_seg dksX24_mendRemoved_2 24 rfl rfl
theorem dksX24_mendRemoved_4 : cX24_mendRemoved.data.toList.drop 96 = dktX24_mendRemoved_4 := dk_seg dksX24_mendRemoved_3 24 rfl rfl
theorem dksX24_mendRemoved_5 : cX24_mendRemoved.data.toList.drop 119 = dktX24_mendRemoved_5 := dk_seg dksX24_mendRemoved_4 23 rfl rfl
theorem dksX24_mendRemoved_6 : cX24_mendRemoved.data.toList.drop 142 = dktX24_mendRemoved_6 := dk_seg dksX24_mendRemoved_5 23 rfl rfl
theorem dksX24_mendRemoved_7 : cX24_mendRemoved.data.toList.drop 166 = dktX24_mendRemoved_7 := dk_seg dksX24_mendRemoved_6 24 rfl rfl
theorem dksX24_mendRemoved_8 : cX24_mendRemoved.data.toList.drop 190 = dktX24_mendRemoved_8 := dk_seg dksX24_mendRemoved_7 24 rfl rfl
theorem dksX24_mendRemoved_9 : cX24_mendRemoved.data.toList.drop 214 = dktX24_mendRemoved_9 := dk_seg dksX24_mendRemoved_8 24 rfl rfl
theorem dksX24_mendRemoved_10 : cX24_mendRemoved.data.toList.drop 238 = dktX24_mendRemoved_10 := dk_seg dksX24_mendRemoved_9 24 rfl rfl
theorem dksX24_mendRemoved_11 : cX24_mendRemoved.data.toList.drop 262 = dktX24_mendRemoved_11 := dk_seg dksX24_mendRemoved_10 24 rfl rfl
theorem dX24_mendRemoved_0 : decode cX24_mendRemoved 0 = .ok (.iload_n 1, 1) := dk_27 (dk_at dksX24_mendRemoved_0 0 rfl rfl)
theorem dX24_mendRemoved_1 : decode cX24_mendRemoved 1 = .ok (.istore_n 2, 1) := dk_61 (dk_at dksX24_mendRemoved_0 1 rfl rfl)
theorem dX24_mendRemoved_2 : decode cX24_mendRemoved 2 = .ok (.iload_n 2, 1) := dk_28 (dk_at dksX24_mendRemoved_0 2 rfl rfl)
theorem dX24_mendRemoved_3 : decode cX24_mendRemoved 3 = .ok (.aload_n 0, 1) := dk_42 (dk_at dksX24_mendRemoved_0 3 rfl rfl)
theorem dX24_mendRemoved_4 : decode cX24_mendRemoved 4 = .ok (.getfield 36, 3) := dk_180 0 36 (dk_at dksX24_mendRemoved_0 4 rfl rfl)
theorem dX24_mendRemoved_7 : decode cX24_mendRemoved 7 = .ok (.if_icmp .eq 251, 3) := dk_159 0 251 (dk_at dksX24_mendRemoved_0 7 rfl rfl)
theorem dX24_mendRemoved_10 : decode cX24_mendRemoved 10 = .ok (.aload_n 0, 1) := dk_42 (dk_at dksX24_mendRemoved_0 10 rfl rfl)
theorem dX24_mendRemoved_11 : decode cX24_mendRemoved 11 = .ok (.getfield 28, 3) := dk_180 0 28 (dk_at dksX24_mendRemoved_0 11 rfl rfl)
theorem dX24_mendRemoved_14 : decode cX24_mendRemoved 14 = .ok (.iload_n 2, 1) := dk_28 (dk_at dksX24_mendRemoved_0 14 rfl rfl)
theorem dX24_mendRemoved_15 : decode cX24_mendRemoved 15 = .ok (.baload, 1) := dk_51 (dk_at dksX24_mendRemoved_0 15 rfl rfl)
theorem dX24_mendRemoved_16 : decode cX24_mendRemoved 16 = .ok (.ifCond .ne 242, 3) := dk_154 0 242 (dk_at dksX24_mendRemoved_0 16 rfl rfl)
theorem dX24_mendRemoved_19 : decode cX24_mendRemoved 19 = .ok (.aload_n 0, 1) := dk_42 (dk_at dksX24_mendRemoved_0 19 rfl rfl)
theorem dX24_mendRemoved_20 : decode cX24_mendRemoved 20 = .ok (.getfield 25, 3) := dk_180 0 25 (dk_at dksX24_mendRemoved_0 20 rfl rfl)
theorem dX24_mendRemoved_23 : decode cX24_mendRemoved 23 = .ok (.iload_n 2, 1) := dk_28 (dk_at dksX24_mendRemoved_0 23 rfl rfl)
theorem dX24_mendRemoved_24 : decode cX24_mendRemoved 24 = .ok (.iaload, 1) := dk_46 (dk_at dksX24_mendRemoved_1 0 rfl rfl)
theorem dX24_mendRemoved_25 : decode cX24_mendRemoved 25 = .ok (.istore_n 3, 1) := dk_62 (dk_at dksX24_mendRemoved_1 1 rfl rfl)
theorem dX24_mendRemoved_26 : decode cX24_mendRemoved 26 = .ok (.iload_n 2, 1) := dk_28 (dk_at dksX24_mendRemoved_1 2 rfl rfl)
theorem dX24_mendRemoved_27 : decode cX24_mendRemoved 27 = .ok (.aload_n 0, 1) := dk_42 (dk_at dksX24_mendRemoved_1 3 rfl rfl)
theorem dX24_mendRemoved_28 : decode cX24_mendRemoved 28 = .ok (.getfield 18, 3) := dk_180 0 18 (dk_at dksX24_mendRemoved_1 4 rfl rfl)
theorem dX24_mendRemoved_31 : decode cX24_mendRemoved 31 = .ok (.iload_n 3, 1) := dk_29 (dk_at dksX24_mendRemoved_1 7 rfl rfl)
theorem dX24_mendRemoved_32 : decode cX24_mendRemoved 32 = .ok (.iaload, 1) := dk_46 (dk_at dksX24_mendRemoved_1 8 rfl rfl)
theorem dX24_mendRemoved_33 : decode cX24_mendRemoved 33 = .ok (.if_icmp .ne 7, 3) := dk_160 0 7 (dk_at dksX24_mendRemoved_1 9 rfl rfl)
theorem dX24_mendRemoved_36 : decode cX24_mendRemoved 36 = .ok (.iconst 1, 1) := dk_4 (dk_at dksX24_mendRemoved_1 12 rfl rfl)
theorem dX24_mendRemoved_37 : decode cX24_mendRemoved 37 = .ok (.goto 4, 3) := dk_167 0 4 (dk_at dksX24_mendRemoved_1 13 rfl rfl)
theorem dX24_mendRemoved_40 : decode cX24_mendRemoved 40 = .ok (.iconst 0, 1) := dk_3 (dk_at dksX24_mendRemoved_1 16 rfl rfl)
theorem dX24_mendRemoved_41 : decode cX24_mendRemoved 41 = .ok (.istore 4, 2) := dk_54 4 (dk_at dksX24_mendRemoved_1 17 rfl rfl)
theorem dX24_mendRemoved_43 : decode cX24_mendRemoved 43 = .ok (.iload 4, 2) := dk_21 4 (dk_at dksX24_mendRemoved_1 19 rfl rfl)
theorem dX24_mendRemoved_45 : decode cX24_mendRemoved 45 = .ok (.ifCond .eq 12, 3) := dk_153 0 12 (dk_at dksX24_mendRemoved_1 21 rfl rfl)
theorem dX24_mendRemoved_48 : decode cX24_mendRemoved 48 = .ok (.aload_n 0, 1) := dk_42 (dk_at dksX24_mendRemoved_2 0 rfl rfl)
theorem dX24_mendRemoved_49 : decode cX24_mendRemoved 49 = .ok (.getfield 22, 3) := dk_180 0 22 (dk_at dksX24_mendRemoved_2 1 rfl rfl)
theorem dX24_mendRemoved_52 : decode cX24_mendRemoved 52 = .ok (.iload_n 3, 1) := dk_29 (dk_at dksX24_mendRemoved_2 4 rfl rfl)
theorem dX24_mendRemoved_53 : decode cX24_mendRemoved 53 = .ok (.iaload, 1) := dk_46 (dk_at dksX24_mendRemoved_2 5 rfl rfl)
theorem dX24_mendRemoved_54 : decode cX24_mendRemoved 54 = .ok (.goto 9, 3) := dk_167 0 9 (dk_at dksX24_mendRemoved_2 6 rfl rfl)
theorem dX24_mendRemoved_57 : decode cX24_mendRemoved 57 = .ok (.aload_n 0, 1) := dk_42 (dk_at dksX24_mendRemoved_2 9 rfl rfl)
theorem dX24_mendRemoved_58 : decode cX24_mendRemoved 58 = .ok (.getfield 18, 3) := dk_180 0 18 (dk_at dksX24_mendRemoved_2 10 rfl rfl)
theorem dX24_mendRemoved_61 : decode cX24_mendRemoved 61 = .ok (.iload_n 3, 1) := dk_29 (dk_at dksX24_mendRemoved_2 13 rfl rfl)
theorem dX24_mendRemoved_62 : decode cX24_mendRemoved 62 = .ok (.iaload, 1) := dk_46 (dk_at dksX24_mendRemoved_2 14 rfl rfl)
theorem dX24_mendRemoved_63 : decode cX24_mendRemoved 63 = .ok (.istore 5, 2) := dk_54 5 (dk_at dksX24_mendRemoved_2 15 rfl rfl)
theorem dX24_mendRemoved_65 : decode cX24_mendRemoved 65 = .ok (.aload_n 0, 1) := dk_42 (dk_at dksX24_mendRemoved_2 17 rfl rfl)
theorem dX24_mendRemoved_66 : decode cX24_mendRemoved 66 = .ok (.getfield 28, 3) := dk_180 0 28 (dk_at dksX24_mendRemoved_2 18 rfl rfl)
theorem dX24_mendRemoved_69 : decode cX24_mendRemoved 69 = .ok (.iload 5, 2) := dk_21 5 (dk_at dksX24_mendRemoved_2 21 rfl rfl)
theorem dX24_mendRemoved_71 : decode cX24_mendRemoved 71 = .ok (.baload, 1) := dk_51 (dk_at dksX24_mendRemoved_2 23 rfl rfl)
theorem dX24_mendRemoved_72 : decode cX24_mendRemoved 72 = .ok (.ifCond .eq 58, 3) := dk_153 0 58 (dk_at dksX24_mendRemoved_3 0 rfl rfl)
theorem dX24_mendRemoved_75 : decode cX24_mendRemoved 75 = .ok (.aload_n 0, 1) := dk_42 (dk_at dksX24_mendRemoved_3 3 rfl rfl)
theorem dX24_mendRemoved_76 : decode cX24_mendRemoved 76 = .ok (.getfield 28, 3) := dk_180 0 28 (dk_at dksX24_mendRemoved_3 4 rfl rfl)
theorem dX24_mendRemoved_79 : decode cX24_mendRemoved 79 = .ok (.iload 5, 2) := dk_21 5 (dk_at dksX24_mendRemoved_3 7 rfl rfl)
theorem dX24_mendRemoved_81 : decode cX24_mendRemoved 81 = .ok (.iconst 0, 1) := dk_3 (dk_at dksX24_mendRemoved_3 9 rfl rfl)
theorem dX24_mendRemoved_82 : decode cX24_mendRemoved 82 = .ok (.bastore, 1) := dk_84 (dk_at dksX24_mendRemoved_3 10 rfl rfl)
theorem dX24_mendRemoved_83 : decode cX24_mendRemoved 83 = .ok (.aload_n 0, 1) := dk_42 (dk_at dksX24_mendRemoved_3 11 rfl rfl)
theorem dX24_mendRemoved_84 : decode cX24_mendRemoved 84 = .ok (.getfield 28, 3) := dk_180 0 28 (dk_at dksX24_mendRemoved_3 12 rfl rfl)
theorem dX24_mendRemoved_87 : decode cX24_mendRemoved 87 = .ok (.iload_n 3, 1) := dk_29 (dk_at dksX24_mendRemoved_3 15 rfl rfl)
theorem dX24_mendRemoved_88 : decode cX24_mendRemoved 88 = .ok (.iconst 1, 1) := dk_4 (dk_at dksX24_mendRemoved_3 16 rfl rfl)
theorem dX24_mendRemoved_89 : decode cX24_mendRemoved 89 = .ok (.bastore, 1) := dk_84 (dk_at dksX24_mendRemoved_3 17 rfl rfl)
theorem dX24_mendRemoved_90 : decode cX24_mendRemoved 90 = .ok (.iload 4, 2) := dk_21 4 (dk_at dksX24_mendRemoved_3 18 rfl rfl)
theorem dX24_mendRemoved_92 : decode cX24_mendRemoved 92 = .ok (.ifCond .eq 11, 3) := dk_153 0 11 (dk_at dksX24_mendRemoved_3 20 rfl rfl)
theorem dX24_mendRemoved_95 : decode cX24_mendRemoved 95 = .ok (.aload_n 0, 1) := dk_42 (dk_at dksX24_mendRemoved_3 23 rfl rfl)
theorem dX24_mendRemoved_96 : decode cX24_mendRemoved 96 = .ok (.iload_n 3, 1) := dk_29 (dk_at dksX24_mendRemoved_4 0 rfl rfl)
theorem dX24_mendRemoved_97 : decode cX24_mendRemoved 97 = .ok (.invokevirtual 88, 3) := dk_182 0 88 (dk_at dksX24_mendRemoved_4 1 rfl rfl)
theorem dX24_mendRemoved_100 : decode cX24_mendRemoved 100 = .ok (.goto 8, 3) := dk_167 0 8 (dk_at dksX24_mendRemoved_4 4 rfl rfl)
theorem dX24_mendRemoved_103 : decode cX24_mendRemoved 103 = .ok (.aload_n 0, 1) := dk_42 (dk_at dksX24_mendRemoved_4 7 rfl rfl)
theorem dX24_mendRemoved_104 : decode cX24_mendRemoved 104 = .ok (.iload_n 3, 1) := dk_29 (dk_at dksX24_mendRemoved_4 8 rfl rfl)
theorem dX24_mendRemoved_105 : decode cX24_mendRemoved 105 = .ok (.invokevirtual 91, 3) := dk_182 0 91 (dk_at dksX24_mendRemoved_4 9 rfl rfl)
theorem dX24_mendRemoved_108 : decode cX24_mendRemoved 108 = .ok (.iload 4, 2) := dk_21 4 (dk_at dksX24_mendRemoved_4 12 rfl rfl)
theorem dX24_mendRemoved_110 : decode cX24_mendRemoved 110 = .ok (.ifCond .eq 12, 3) := dk_153 0 12 (dk_at dksX24_mendRemoved_4 14 rfl rfl)
theorem dX24_mendRemoved_113 : decode cX24_mendRemoved 113 = .ok (.aload_n 0, 1) := dk_42 (dk_at dksX24_mendRemoved_4 17 rfl rfl)
theorem dX24_mendRemoved_114 : decode cX24_mendRemoved 114 = .ok (.getfield 22, 3) := dk_180 0 22 (dk_at dksX24_mendRemoved_4 18 rfl rfl)
theorem dX24_mendRemoved_117 : decode cX24_mendRemoved 117 = .ok (.iload_n 3, 1) := dk_29 (dk_at dksX24_mendRemoved_4 21 rfl rfl)
theorem dX24_mendRemoved_118 : decode cX24_mendRemoved 118 = .ok (.iaload, 1) := dk_46 (dk_at dksX24_mendRemoved_4 22 rfl rfl)
theorem dX24_mendRemoved_119 : decode cX24_mendRemoved 119 = .ok (.goto 9, 3) := dk_167 0 9 (dk_at dksX24_mendRemoved_5 0 rfl rfl)
theorem dX24_mendRemoved_122 : decode cX24_mendRemoved 122 = .ok (.aload_n 0, 1) := dk_42 (dk_at dksX24_mendRemoved_5 3 rfl rfl)
theorem dX24_mendRemoved_123 : decode cX24_mendRemoved 123 = .ok (.getfield 18, 3) := dk_180 0 18 (dk_at dksX24_mendRemoved_5 4 rfl rfl)
theorem dX24_mendRemoved_126 : decode cX24_mendRemoved 126 = .ok (.iload_n 3, 1) := dk_29 (dk_at dksX24_mendRemoved_5 7 rfl rfl)
theorem dX24_mendRemoved_127 : decode cX24_mendRemoved 127 = .ok (.iaload, 1) := dk_46 (dk_at dksX24_mendRemoved_5 8 rfl rfl)
theorem dX24_mendRemoved_128 : decode cX24_mendRemoved 128 = .ok (.istore 5, 2) := dk_54 5 (dk_at dksX24_mendRemoved_5 9 rfl rfl)
theorem dX24_mendRemoved_130 : decode cX24_mendRemoved 130 = .ok (.aload_n 0, 1) := dk_42 (dk_at dksX24_mendRemoved_5 11 rfl rfl)
theorem dX24_mendRemoved_131 : decode cX24_mendRemoved 131 = .ok (.getfield 28, 3) := dk_180 0 28 (dk_at dksX24_mendRemoved_5 12 rfl rfl)
theorem dX24_mendRemoved_134 : decode cX24_mendRemoved 134 = .ok (.aload_n 0, 1) := dk_42 (dk_at dksX24_mendRemoved_5 15 rfl rfl)
theorem dX24_mendRemoved_135 : decode cX24_mendRemoved 135 = .ok (.getfield 18, 3) := dk_180 0 18 (dk_at dksX24_mendRemoved_5 16 rfl rfl)
theorem dX24_mendRemoved_138 : decode cX24_mendRemoved 138 = .ok (.iload 5, 2) := dk_21 5 (dk_at dksX24_mendRemoved_5 19 rfl rfl)
theorem dX24_mendRemoved_140 : decode cX24_mendRemoved 140 = .ok (.iaload, 1) := dk_46 (dk_at dksX24_mendRemoved_5 21 rfl rfl)
theorem dX24_mendRemoved_141 : decode cX24_mendRemoved 141 = .ok (.baload, 1) := dk_51 (dk_at dksX24_mendRemoved_5 22 rfl rfl)
theorem dX24_mendRemoved_142 : decode cX24_mendRemoved 142 = .ok (.ifCond .ne 31, 3) := dk_154 0 31 (dk_at dksX24_mendRemoved_6 0 rfl rfl)
theorem dX24_mendRemoved_145 : decode cX24_mendRemoved 145 = .ok (.aload_n 0, 1) := dk_42 (dk_at dksX24_mendRemoved_6 3 rfl rfl)
theorem dX24_mendRemoved_146 : decode cX24_mendRemoved 146 = .ok (.getfield 28, 3) := dk_180 0 28 (dk_at dksX24_mendRemoved_6 4 rfl rfl)
theorem dX24_mendRemoved_149 : decode cX24_mendRemoved 149 = .ok (.aload_n 0, 1) := dk_42 (dk_at dksX24_mendRemoved_6 7 rfl rfl)
theorem dX24_mendRemoved_150 : decode cX24_mendRemoved 150 = .ok (.getfield 22, 3) := dk_180 0 22 (dk_at dksX24_mendRemoved_6 8 rfl rfl)
theorem dX24_mendRemoved_153 : decode cX24_mendRemoved 153 = .ok (.iload 5, 2) := dk_21 5 (dk_at dksX24_mendRemoved_6 11 rfl rfl)
theorem dX24_mendRemoved_155 : decode cX24_mendRemoved 155 = .ok (.iaload, 1) := dk_46 (dk_at dksX24_mendRemoved_6 13 rfl rfl)
theorem dX24_mendRemoved_156 : decode cX24_mendRemoved 156 = .ok (.baload, 1) := dk_51 (dk_at dksX24_mendRemoved_6 14 rfl rfl)
theorem dX24_mendRemoved_157 : decode cX24_mendRemoved 157 = .ok (.ifCond .ne 16, 3) := dk_154 0 16 (dk_at dksX24_mendRemoved_6 15 rfl rfl)
theorem dX24_mendRemoved_160 : decode cX24_mendRemoved 160 = .ok (.aload_n 0, 1) := dk_42 (dk_at dksX24_mendRemoved_6 18 rfl rfl)
theorem dX24_mendRemoved_161 : decode cX24_mendRemoved 161 = .ok (.getfield 28, 3) := dk_180 0 28 (dk_at dksX24_mendRemoved_6 19 rfl rfl)
theorem dX24_mendRemoved_164 : decode cX24_mendRemoved 164 = .ok (.iload 5, 2) := dk_21 5 (dk_at dksX24_mendRemoved_6 22 rfl rfl)
theorem dX24_mendRemoved_166 : decode cX24_mendRemoved 166 = .ok (.iconst 1, 1) := dk_4 (dk_at dksX24_mendRemoved_7 0 rfl rfl)
theorem dX24_mendRemoved_167 : decode cX24_mendRemoved 167 = .ok (.bastore, 1) := dk_84 (dk_at dksX24_mendRemoved_7 1 rfl rfl)
theorem dX24_mendRemoved_168 : decode cX24_mendRemoved 168 = .ok (.iload_n 3, 1) := dk_29 (dk_at dksX24_mendRemoved_7 2 rfl rfl)
theorem dX24_mendRemoved_169 : decode cX24_mendRemoved 169 = .ok (.istore_n 2, 1) := dk_61 (dk_at dksX24_mendRemoved_7 3 rfl rfl)
theorem dX24_mendRemoved_170 : decode cX24_mendRemoved 170 = .ok (.goto (-168), 3) := dk_167 255 88 (dk_at dksX24_mendRemoved_7 4 rfl rfl)
theorem dX24_mendRemoved_173 : decode cX24_mendRemoved 173 = .ok (.aload_n 0, 1) := dk_42 (dk_at dksX24_mendRemoved_7 7 rfl rfl)
theorem dX24_mendRemoved_174 : decode cX24_mendRemoved 174 = .ok (.iload_n 3, 1) := dk_29 (dk_at dksX24_mendRemoved_7 8 rfl rfl)
theorem dX24_mendRemoved_175 : decode cX24_mendRemoved 175 = .ok (.iload 5, 2) := dk_21 5 (dk_at dksX24_mendRemoved_7 9 rfl rfl)
theorem dX24_mendRemoved_177 : decode cX24_mendRemoved 177 = .ok (.iload 4, 2) := dk_21 4 (dk_at dksX24_mendRemoved_7 11 rfl rfl)
theorem dX24_mendRemoved_179 : decode cX24_mendRemoved 179 = .ok (.invokevirtual 100, 3) := dk_182 0 100 (dk_at dksX24_mendRemoved_7 13 rfl rfl)
theorem dX24_mendRemoved_182 : decode cX24_mendRemoved 182 = .ok (.istore 5, 2) := dk_54 5 (dk_at dksX24_mendRemoved_7 16 rfl rfl)
theorem dX24_mendRemoved_184 : decode cX24_mendRemoved 184 = .ok (.aload_n 0, 1) := dk_42 (dk_at dksX24_mendRemoved_7 18 rfl rfl)
theorem dX24_mendRemoved_185 : decode cX24_mendRemoved 185 = .ok (.getfield 28, 3) := dk_180 0 28 (dk_at dksX24_mendRemoved_7 19 rfl rfl)
theorem dX24_mendRemoved_188 : decode cX24_mendRemoved 188 = .ok (.iload 5, 2) := dk_21 5 (dk_at dksX24_mendRemoved_7 22 rfl rfl)
theorem dX24_mendRemoved_190 : decode cX24_mendRemoved 190 = .ok (.aload_n 0, 1) := dk_42 (dk_at dksX24_mendRemoved_8 0 rfl rfl)
theorem dX24_mendRemoved_191 : decode cX24_mendRemoved 191 = .ok (.getfield 28, 3) := dk_180 0 28 (dk_at dksX24_mendRemoved_8 1 rfl rfl)
theorem dX24_mendRemoved_194 : decode cX24_mendRemoved 194 = .ok (.iload_n 3, 1) := dk_29 (dk_at dksX24_mendRemoved_8 4 rfl rfl)
theorem dX24_mendRemoved_195 : decode cX24_mendRemoved 195 = .ok (.baload, 1) := dk_51 (dk_at dksX24_mendRemoved_8 5 rfl rfl)
theorem dX24_mendRemoved_196 : decode cX24_mendRemoved 196 = .ok (.bastore, 1) := dk_84 (dk_at dksX24_mendRemoved_8 6 rfl rfl)
theorem dX24_mendRemoved_197 : decode cX24_mendRemoved 197 = .ok (.aload_n 0, 1) := dk_42 (dk_at dksX24_mendRemoved_8 7 rfl rfl)
theorem dX24_mendRemoved_198 : decode cX24_mendRemoved 198 = .ok (.getfield 28, 3) := dk_180 0 28 (dk_at dksX24_mendRemoved_8 8 rfl rfl)
theorem dX24_mendRemoved_201 : decode cX24_mendRemoved 201 = .ok (.iload_n 3, 1) := dk_29 (dk_at dksX24_mendRemoved_8 11 rfl rfl)
theorem dX24_mendRemoved_202 : decode cX24_mendRemoved 202 = .ok (.iconst 0, 1) := dk_3 (dk_at dksX24_mendRemoved_8 12 rfl rfl)
theorem dX24_mendRemoved_203 : decode cX24_mendRemoved 203 = .ok (.bastore, 1) := dk_84 (dk_at dksX24_mendRemoved_8 13 rfl rfl)
theorem dX24_mendRemoved_204 : decode cX24_mendRemoved 204 = .ok (.aload_n 0, 1) := dk_42 (dk_at dksX24_mendRemoved_8 14 rfl rfl)
theorem dX24_mendRemoved_205 : decode cX24_mendRemoved 205 = .ok (.getfield 28, 3) := dk_180 0 28 (dk_at dksX24_mendRemoved_8 15 rfl rfl)
theorem dX24_mendRemoved_208 : decode cX24_mendRemoved 208 = .ok (.iload 4, 2) := dk_21 4 (dk_at dksX24_mendRemoved_8 18 rfl rfl)
theorem dX24_mendRemoved_210 : decode cX24_mendRemoved 210 = .ok (.ifCond .eq 13, 3) := dk_153 0 13 (dk_at dksX24_mendRemoved_8 20 rfl rfl)
theorem dX24_mendRemoved_213 : decode cX24_mendRemoved 213 = .ok (.aload_n 0, 1) := dk_42 (dk_at dksX24_mendRemoved_8 23 rfl rfl)
theorem dX24_mendRemoved_214 : decode cX24_mendRemoved 214 = .ok (.getfield 22, 3) := dk_180 0 22 (dk_at dksX24_mendRemoved_9 0 rfl rfl)
theorem dX24_mendRemoved_217 : decode cX24_mendRemoved 217 = .ok (.iload 5, 2) := dk_21 5 (dk_at dksX24_mendRemoved_9 3 rfl rfl)
theorem dX24_mendRemoved_219 : decode cX24_mendRemoved 219 = .ok (.iaload, 1) := dk_46 (dk_at dksX24_mendRemoved_9 5 rfl rfl)
theorem dX24_mendRemoved_220 : decode cX24_mendRemoved 220 = .ok (.goto 10, 3) := dk_167 0 10 (dk_at dksX24_mendRemoved_9 6 rfl rfl)
theorem dX24_mendRemoved_223 : decode cX24_mendRemoved 223 = .ok (.aload_n 0, 1) := dk_42 (dk_at dksX24_mendRemoved_9 9 rfl rfl)
theorem dX24_mendRemoved_224 : decode cX24_mendRemoved 224 = .ok (.getfield 18, 3) := dk_180 0 18 (dk_at dksX24_mendRemoved_9 10 rfl rfl)
theorem dX24_mendRemoved_227 : decode cX24_mendRemoved 227 = .ok (.iload 5, 2) := dk_21 5 (dk_at dksX24_mendRemoved_9 13 rfl rfl)
theorem dX24_mendRemoved_229 : decode cX24_mendRemoved 229 = .ok (.iaload, 1) := dk_46 (dk_at dksX24_mendRemoved_9 15 rfl rfl)
theorem dX24_mendRemoved_230 : decode cX24_mendRemoved 230 = .ok (.iconst 0, 1) := dk_3 (dk_at dksX24_mendRemoved_9 16 rfl rfl)
theorem dX24_mendRemoved_231 : decode cX24_mendRemoved 231 = .ok (.bastore, 1) := dk_84 (dk_at dksX24_mendRemoved_9 17 rfl rfl)
theorem dX24_mendRemoved_232 : decode cX24_mendRemoved 232 = .ok (.iload 4, 2) := dk_21 4 (dk_at dksX24_mendRemoved_9 18 rfl rfl)
theorem dX24_mendRemoved_234 : decode cX24_mendRemoved 234 = .ok (.ifCond .eq 11, 3) := dk_153 0 11 (dk_at dksX24_mendRemoved_9 20 rfl rfl)
theorem dX24_mendRemoved_237 : decode cX24_mendRemoved 237 = .ok (.aload_n 0, 1) := dk_42 (dk_at dksX24_mendRemoved_9 23 rfl rfl)
theorem dX24_mendRemoved_238 : decode cX24_mendRemoved 238 = .ok (.iload_n 3, 1) := dk_29 (dk_at dksX24_mendRemoved_10 0 rfl rfl)
theorem dX24_mendRemoved_239 : decode cX24_mendRemoved 239 = .ok (.invokevirtual 88, 3) := dk_182 0 88 (dk_at dksX24_mendRemoved_10 1 rfl rfl)
theorem dX24_mendRemoved_242 : decode cX24_mendRemoved 242 = .ok (.goto 8, 3) := dk_167 0 8 (dk_at dksX24_mendRemoved_10 4 rfl rfl)
theorem dX24_mendRemoved_245 : decode cX24_mendRemoved 245 = .ok (.aload_n 0, 1) := dk_42 (dk_at dksX24_mendRemoved_10 7 rfl rfl)
theorem dX24_mendRemoved_246 : decode cX24_mendRemoved 246 = .ok (.iload_n 3, 1) := dk_29 (dk_at dksX24_mendRemoved_10 8 rfl rfl)
theorem dX24_mendRemoved_247 : decode cX24_mendRemoved 247 = .ok (.invokevirtual 91, 3) := dk_182 0 91 (dk_at dksX24_mendRemoved_10 9 rfl rfl)
theorem dX24_mendRemoved_250 : decode cX24_mendRemoved 250 = .ok (.aload_n 0, 1) := dk_42 (dk_at dksX24_mendRemoved_10 12 rfl rfl)
theorem dX24_mendRemoved_251 : decode cX24_mendRemoved 251 = .ok (.getfield 36, 3) := dk_180 0 36 (dk_at dksX24_mendRemoved_10 13 rfl rfl)
theorem dX24_mendRemoved_254 : decode cX24_mendRemoved 254 = .ok (.istore_n 2, 1) := dk_61 (dk_at dksX24_mendRemoved_10 16 rfl rfl)
theorem dX24_mendRemoved_255 : decode cX24_mendRemoved 255 = .ok (.goto (-253), 3) := dk_167 255 3 (dk_at dksX24_mendRemoved_10 17 rfl rfl)
theorem dX24_mendRemoved_258 : decode cX24_mendRemoved 258 = .ok (.aload_n 0, 1) := dk_42 (dk_at dksX24_mendRemoved_10 20 rfl rfl)
theorem dX24_mendRemoved_259 : decode cX24_mendRemoved 259 = .ok (.getfield 28, 3) := dk_180 0 28 (dk_at dksX24_mendRemoved_10 21 rfl rfl)
theorem dX24_mendRemoved_262 : decode cX24_mendRemoved 262 = .ok (.iload_n 2, 1) := dk_28 (dk_at dksX24_mendRemoved_11 0 rfl rfl)
theorem dX24_mendRemoved_263 : decode cX24_mendRemoved 263 = .ok (.iconst 0, 1) := dk_3 (dk_at dksX24_mendRemoved_11 1 rfl rfl)
theorem dX24_mendRemoved_264 : decode cX24_mendRemoved 264 = .ok (.bastore, 1) := dk_84 (dk_at dksX24_mendRemoved_11 2 rfl rfl)
theorem dX24_mendRemoved_265 : decode cX24_mendRemoved 265 = .ok (.return_, 1) := dk_177 (dk_at dksX24_mendRemoved_11 3 rfl rfl)
abbrev cX24_mendFar : ByteArray := prog_35_method_27_code
def yX24_mendFar : MethodName := ⟨RX24, "mendFa\x72", "(IIZ)I"⟩
def dkwX24_mendFar_4 : List UInt8 := [180, 0, 18, 27, 46, 172]
abbrev dktX24_mendFar_4 : List UInt8 := dkwX24_mendFar_4 ++ []
def dkwX24_mendFar_3 : List UInt8 := [167, 0, 8, 42, 28, 182, 0, 88, 29, 153, 0, 12, 42, 180, 0, 22, 27, 46, 167, 0, 9, 42]
abbrev dktX24_mendFar_3 : List UInt8 := dkwX24_mendFar_3 ++ dktX24_mendFar_4
def dkwX24_mendFar_2 : List UInt8 := [180, 0, 22, 28, 46, 3, 84, 42, 180, 0, 28, 28, 4, 84, 29, 153, 0, 11, 42, 28, 182, 0, 91]
abbrev dktX24_mendFar_2 : List UInt8 := dkwX24_mendFar_2 ++ dktX24_mendFar_3
def dkwX24_mendFar_1 : List UInt8 := [153, 0, 5, 28, 172, 42, 180, 0, 28, 29, 153, 0, 12, 42, 180, 0, 18, 28, 46, 167, 0, 9, 42]
abbrev dktX24_mendFar_1 : List UInt8 := dkwX24_mendFar_1 ++ dktX24_mendFar_2
def dkwX24_mendFar_0 : List UInt8 := [42, 180, 0, 28, 29, 153, 0, 12, 42, 180, 0, 22, 28, 46, 167, 0, 9, 42, 180, 0, 18, 28, 46, 51]
abbrev dktX24_mendFar_0 : List UInt8 := dkwX24_mendFar_0 ++ dktX24_mendFar_1
theorem dksX24_mendFar_0 : cX24_mendFar.data.toList.drop 0 = dktX24_mendFar_0 := by decide +kernel
theorem dksX24_mendFar_1 : cX24_mendFar.data.toList.drop 24 = dktX24_mendFar_1 := dk_seg dksX24_mendFar_0 24 rfl rfl
theorem dksX24_mendFar_2 : cX24_mendFar.data.toList.drop 47 = dktX24_mendFar_2 := dk_seg dksX24_mendFar_1 23 rfl rfl
theorem dksX24_mendFar_3 : cX24_mendFar.data.toList.drop 70 = dktX24_mendFar_3 := dk_seg dksX24_mendFar_2 23 rfl rfl
theorem dksX24_mendFar_4 : cX24_mendFar.data.toList.drop 92 = dktX24_mendFar_4 := dk_seg dksX24_mendFar_3 22 rfl rfl
theorem dX24_mendFar_0 : decode cX24_mendFar 0 = .ok (.aload_n 0, 1) := dk_42 (dk_at dksX24_mendFar_0 0 rfl rfl)
theorem dX24_mendFar_1 : decode cX24_mendFar 1 = .ok (.getfield 28, 3) := dk_180 0 28 (dk_at dksX24_mendFar_0 1 rfl rfl)
theorem dX24_mendFar_4 : decode cX24_mendFar 4 = .ok (.iload_n 3, 1) := dk_29 (dk_at dksX24_mendFar_0 4 rfl rfl)
theorem dX24_mendFar_5 : decode cX24_mendFar 5 = .ok (.ifCond .eq 12, 3) := dk_153 0 12 (dk_at dksX24_mendFar_0 5 rfl rfl)
theorem dX24_mendFar_8 : decode cX24_mendFar 8 = .ok (.aload_n 0, 1) := dk_42 (dk_at dksX24_mendFar_0 8 rfl rfl)
theorem dX24_mendFar_9 : decode cX24_mendFar 9 = .ok (.getfield 22, 3) := dk_180 0 22 (dk_at dksX24_mendFar_0 9 rfl rfl)
theorem dX24_mendFar_12 : decode cX24_mendFar 12 = .ok (.iload_n 2, 1) := dk_28 (dk_at dksX24_mendFar_0 12 rfl rfl)
theorem dX24_mendFar_13 : decode cX24_mendFar 13 = .ok (.iaload, 1) := dk_46 (dk_at dksX24_mendFar_0 13 rfl rfl)
theorem dX24_mendFar_14 : decode cX24_mendFar 14 = .ok (.goto 9, 3) := dk_167 0 9 (dk_at dksX24_mendFar_0 14 rfl rfl)
theorem dX24_mendFar_17 : decode cX24_mendFar 17 = .ok (.aload_n 0, 1) := dk_42 (dk_at dksX24_mendFar_0 17 rfl rfl)
theorem dX24_mendFar_18 : decode cX24_mendFar 18 = .ok (.getfield 18, 3) := dk_180 0 18 (dk_at dksX24_mendFar_0 18 rfl rfl)
theorem dX24_mendFar_21 : decode cX24_mendFar 21 = .ok (.iload_n 2, 1) := dk_28 (dk_at dksX24_mendFar_0 21 rfl rfl)
theorem dX24_mendFar_22 : decode cX24_mendFar 22 = .ok (.iaload, 1) := dk_46 (dk_at dksX24_mendFar_0 22 rfl rfl)
theorem dX24_mendFar_23 : decode cX24_mendFar 23 = .ok (.baload, 1) := dk_51 (dk_at dksX24_mendFar_0 23 rfl rfl)
theorem dX24_mendFar_24 : decode cX24_mendFar 24 = .ok (.ifCond .eq 5, 3) := dk_153 0 5 (dk_at dksX24_mendFar_1 0 rfl rfl)
theorem dX24_mendFar_27 : decode cX24_mendFar 27 = .ok (.iload_n 2, 1) := dk_28 (dk_at dksX24_mendFar_1 3 rfl rfl)
theorem dX24_mendFar_28 : decode cX24_mendFar 28 = .ok (.ireturn, 1) := dk_172 (dk_at dksX24_mendFar_1 4 rfl rfl)
theorem dX24_mendFar_29 : decode cX24_mendFar 29 = .ok (.aload_n 0, 1) := dk_42 (dk_at dksX24_mendFar_1 5 rfl rfl)
theorem dX24_mendFar_30 : decode cX24_mendFar 30 = .ok (.getfield 28, 3) := dk_180 0 28 (dk_at dksX24_mendFar_1 6 rfl rfl)
theorem dX24_mendFar_33 : decode cX24_mendFar 33 = .ok (.iload_n 3, 1) := dk_29 (dk_at dksX24_mendFar_1 9 rfl rfl)
theorem dX24_mendFar_34 : decode cX24_mendFar 34 = .ok (.ifCond .eq 12, 3) := dk_153 0 12 (dk_at dksX24_mendFar_1 10 rfl rfl)
theorem dX24_mendFar_37 : decode cX24_mendFar 37 = .ok (.aload_n 0, 1) := dk_42 (dk_at dksX24_mendFar_1 13 rfl rfl)
theorem dX24_mendFar_38 : decode cX24_mendFar 38 = .ok (.getfield 18, 3) := dk_180 0 18 (dk_at dksX24_mendFar_1 14 rfl rfl)
theorem dX24_mendFar_41 : decode cX24_mendFar 41 = .ok (.iload_n 2, 1) := dk_28 (dk_at dksX24_mendFar_1 17 rfl rfl)
theorem dX24_mendFar_42 : decode cX24_mendFar 42 = .ok (.iaload, 1) := dk_46 (dk_at dksX24_mendFar_1 18 rfl rfl)
theorem dX24_mendFar_43 : decode cX24_mendFar 43 = .ok (.goto 9, 3) := dk_167 0 9 (dk_at dksX24_mendFar_1 19 rfl rfl)
theorem dX24_mendFar_46 : decode cX24_mendFar 46 = .ok (.aload_n 0, 1) := dk_42 (dk_at dksX24_mendFar_1 22 rfl rfl)
theorem dX24_mendFar_47 : decode cX24_mendFar 47 = .ok (.getfield 22, 3) := dk_180 0 22 (dk_at dksX24_mendFar_2 0 rfl rfl)
theorem dX24_mendFar_50 : decode cX24_mendFar 50 = .ok (.iload_n 2, 1) := dk_28 (dk_at dksX24_mendFar_2 3 rfl rfl)
theorem dX24_mendFar_51 : decode cX24_mendFar 51 = .ok (.iaload, 1) := dk_46 (dk_at dksX24_mendFar_2 4 rfl rfl)
theorem dX24_mendFar_52 : decode cX24_mendFar 52 = .ok (.iconst 0, 1) := dk_3 (dk_at dksX24_mendFar_2 5 rfl rfl)
theorem dX24_mendFar_53 : decode cX24_mendFar 53 = .ok (.bastore, 1) := dk_84 (dk_at dksX24_mendFar_2 6 rfl rfl)
theorem dX24_mendFar_54 : decode cX24_mendFar 54 = .ok (.aload_n 0, 1) := dk_42 (dk_at dksX24_mendFar_2 7 rfl rfl)
theorem dX24_mendFar_55 : decode cX24_mendFar 55 = .ok (.getfield 28, 3) := dk_180 0 28 (dk_at dksX24_mendFar_2 8 rfl rfl)
theorem dX24_mendFar_58 : decode cX24_mendFar 58 = .ok (.iload_n 2, 1) := dk_28 (dk_at dksX24_mendFar_2 11 rfl rfl)
theorem dX24_mendFar_59 : decode cX24_mendFar 59 = .ok (.iconst 1, 1) := dk_4 (dk_at dksX24_mendFar_2 12 rfl rfl)
theorem dX24_mendFar_60 : decode cX24_mendFar 60 = .ok (.bastore, 1) := dk_84 (dk_at dksX24_mendFar_2 13 rfl rfl)
theorem dX24_mendFar_61 : decode cX24_mendFar 61 = .ok (.iload_n 3, 1) := dk_29 (dk_at dksX24_mendFar_2 14 rfl rfl)
theorem dX24_mendFar_62 : decode cX24_mendFar 62 = .ok (.ifCond .eq 11, 3) := dk_153 0 11 (dk_at dksX24_mendFar_2 15 rfl rfl)
theorem dX24_mendFar_65 : decode cX24_mendFar 65 = .ok (.aload_n 0, 1) := dk_42 (dk_at dksX24_mendFar_2 18 rfl rfl)
theorem dX24_mendFar_66 : decode cX24_mendFar 66 = .ok (.iload_n 2, 1) := dk_28 (dk_at dksX24_mendFar_2 19 rfl rfl)
theorem dX24_mendFar_67 : decode cX24_mendFar 67 = .ok (.invokevirtual 91, 3) := dk_182 0 91 (dk_at dksX24_mendFar_2 20 rfl rfl)
theorem dX24_mendFar_70 : decode cX24_mendFar 70 = .ok (.goto 8, 3) := dk_167 0 8 (dk_at dksX24_mendFar_3 0 rfl rfl)
theorem dX24_mendFar_73 : decode cX24_mendFar 73 = .ok (.aload_n 0, 1) := dk_42 (dk_at dksX24_mendFar_3 3 rfl rfl)
theorem dX24_mendFar_74 : decode cX24_mendFar 74 = .ok (.iload_n 2, 1) := dk_28 (dk_at dksX24_mendFar_3 4 rfl rfl)
theorem dX24_mendFar_75 : decode cX24_mendFar 75 = .ok (.invokevirtual 88, 3) := dk_182 0 88 (dk_at dksX24_mendFar_3 5 rfl rfl)
theorem dX24_mendFar_78 : decode cX24_mendFar 78 = .ok (.iload_n 3, 1) := dk_29 (dk_at dksX24_mendFar_3 8 rfl rfl)
theorem dX24_mendFar_79 : decode cX24_mendFar 79 = .ok (.ifCond .eq 12, 3) := dk_153 0 12 (dk_at dksX24_mendFar_3 9 rfl rfl)
theorem dX24_mendFar_82 : decode cX24_mendFar 82 = .ok (.aload_n 0, 1) := dk_42 (dk_at dksX24_mendFar_3 12 rfl rfl)
theorem dX24_mendFar_83 : decode cX24_mendFar 83 = .ok (.getfield 22, 3) := dk_180 0 22 (dk_at dksX24_mendFar_3 13 rfl rfl)
theorem dX24_mendFar_86 : decode cX24_mendFar 86 = .ok (.iload_n 1, 1) := dk_27 (dk_at dksX24_mendFar_3 16 rfl rfl)
theorem dX24_mendFar_87 : decode cX24_mendFar 87 = .ok (.iaload, 1) := dk_46 (dk_at dksX24_mendFar_3 17 rfl rfl)
theorem dX24_mendFar_88 : decode cX24_mendFar 88 = .ok (.goto 9, 3) := dk_167 0 9 (dk_at dksX24_mendFar_3 18 rfl rfl)
theorem dX24_mendFar_91 : decode cX24_mendFar 91 = .ok (.aload_n 0, 1) := dk_42 (dk_at dksX24_mendFar_3 21 rfl rfl)
theorem dX24_mendFar_92 : decode cX24_mendFar 92 = .ok (.getfield 18, 3) := dk_180 0 18 (dk_at dksX24_mendFar_4 0 rfl rfl)
theorem dX24_mendFar_95 : decode cX24_mendFar 95 = .ok (.iload_n 1, 1) := dk_27 (dk_at dksX24_mendFar_4 3 rfl rfl)
theorem dX24_mendFar_96 : decode cX24_mendFar 96 = .ok (.iaload, 1) := dk_46 (dk_at dksX24_mendFar_4 4 rfl rfl)
theorem dX24_mendFar_97 : decode cX24_mendFar 97 = .ok (.ireturn, 1) := dk_172 (dk_at dksX24_mendFar_4 5 rfl rfl)
abbrev cX24_upTo : ByteArray := prog_35_method_19_code
def yX24_upTo : MethodName := ⟨RX24, "upTo", "(IZ)I"⟩
def dkwX24_upTo_3 : List UInt8 := [167, 255, 193, 29, 172]
abbrev dktX24_upTo_3 : List UInt8 := dkwX24_upTo_3 ++ []
def dkwX24_upTo_2 : List UInt8 := [21, 4, 62, 42, 180, 0, 22, 21, 4, 46, 54, 4, 167, 0, 12, 42, 180, 0, 18, 21, 4, 46, 54, 4]
abbrev dktX24_upTo_2 : List UInt8 := dkwX24_upTo_2 ++ dktX24_upTo_3
def dkwX24_upTo_1 : List UInt8 := [21, 4, 46, 27, 182, 0, 58, 54, 5, 21, 5, 155, 0, 12, 21, 5, 154, 0, 22, 28, 154, 0, 18]
abbrev dktX24_upTo_1 : List UInt8 := dkwX24_upTo_1 ++ dktX24_upTo_2
def dkwX24_upTo_0 : List UInt8 := [2, 62, 42, 180, 0, 36, 54, 4, 21, 4, 17, 3, 232, 159, 0, 61, 42, 42, 180, 0, 12, 180, 0, 55]
abbrev dktX24_upTo_0 : List UInt8 := dkwX24_upTo_0 ++ dktX24_upTo_1
theorem dksX24_upTo_0 : cX24_upTo.data.toList.drop 0 = dktX24_upTo_0 := by decide +kernel
theorem dksX24_upTo_1 : cX24_upTo.data.toList.drop 24 = dktX24_upTo_1 := dk_seg dksX24_upTo_0 24 rfl rfl
theorem dksX24_upTo_2 : cX24_upTo.data.toList.drop 47 = dktX24_upTo_2 := dk_seg dksX24_upTo_1 23 rfl rfl
theorem dksX24_upTo_3 : cX24_upTo.data.toList.drop 71 = dktX24_upTo_3 := dk_seg dksX24_upTo_2 24 rfl rfl
theorem dX24_upTo_0 : decode cX24_upTo 0 = .ok (.iconst (-1), 1) := dk_2 (dk_at dksX24_upTo_0 0 rfl rfl)
theorem dX24_upTo_1 : decode cX24_upTo 1 = .ok (.istore_n 3, 1) := dk_62 (dk_at dksX24_upTo_0 1 rfl rfl)
theorem dX24_upTo_2 : decode cX24_upTo 2 = .ok (.aload_n 0, 1) := dk_42 (dk_at dksX24_upTo_0 2 rfl rfl)
theorem dX24_upTo_3 : decode cX24_upTo 3 = .ok (.getfield 36, 3) := dk_180 0 36 (dk_at dksX24_upTo_0 3 rfl rfl)
theorem dX24_upTo_6 : decode cX24_upTo 6 = .ok (.istore 4, 2) := dk_54 4 (dk_at dksX24_upTo_0 6 rfl rfl)
theorem dX24_upTo_8 : decode cX24_upTo 8 = .ok (.iload 4, 2) := dk_21 4 (dk_at dksX24_upTo_0 8 rfl rfl)
theorem dX24_upTo_10 : decode cX24_upTo 10 = .ok (.sipush 1000, 3) := dk_17 3 232 (dk_at dksX24_upTo_0 10 rfl rfl)
theorem dX24_upTo_13 : decode cX24_upTo 13 = .ok (.if_icmp .eq 61, 3) := dk_159 0 61 (dk_at dksX24_upTo_0 13 rfl rfl)
theorem dX24_upTo_16 : decode cX24_upTo 16 = .ok (.aload_n 0, 1) := dk_42 (dk_at dksX24_upTo_0 16 rfl rfl)
theorem dX24_upTo_17 : decode cX24_upTo 17 = .ok (.aload_n 0, 1) := dk_42 (dk_at dksX24_upTo_0 17 rfl rfl)
theorem dX24_upTo_18 : decode cX24_upTo 18 = .ok (.getfield 12, 3) := dk_180 0 12 (dk_at dksX24_upTo_0 18 rfl rfl)
theorem dX24_upTo_21 : decode cX24_upTo 21 = .ok (.getfield 55, 3) := dk_180 0 55 (dk_at dksX24_upTo_0 21 rfl rfl)
theorem dX24_upTo_24 : decode cX24_upTo 24 = .ok (.iload 4, 2) := dk_21 4 (dk_at dksX24_upTo_1 0 rfl rfl)
theorem dX24_upTo_26 : decode cX24_upTo 26 = .ok (.iaload, 1) := dk_46 (dk_at dksX24_upTo_1 2 rfl rfl)
theorem dX24_upTo_27 : decode cX24_upTo 27 = .ok (.iload_n 1, 1) := dk_27 (dk_at dksX24_upTo_1 3 rfl rfl)
theorem dX24_upTo_28 : decode cX24_upTo 28 = .ok (.invokevirtual 58, 3) := dk_182 0 58 (dk_at dksX24_upTo_1 4 rfl rfl)
theorem dX24_upTo_31 : decode cX24_upTo 31 = .ok (.istore 5, 2) := dk_54 5 (dk_at dksX24_upTo_1 7 rfl rfl)
theorem dX24_upTo_33 : decode cX24_upTo 33 = .ok (.iload 5, 2) := dk_21 5 (dk_at dksX24_upTo_1 9 rfl rfl)
theorem dX24_upTo_35 : decode cX24_upTo 35 = .ok (.ifCond .lt 12, 3) := dk_155 0 12 (dk_at dksX24_upTo_1 11 rfl rfl)
theorem dX24_upTo_38 : decode cX24_upTo 38 = .ok (.iload 5, 2) := dk_21 5 (dk_at dksX24_upTo_1 14 rfl rfl)
theorem dX24_upTo_40 : decode cX24_upTo 40 = .ok (.ifCond .ne 22, 3) := dk_154 0 22 (dk_at dksX24_upTo_1 16 rfl rfl)
theorem dX24_upTo_43 : decode cX24_upTo 43 = .ok (.iload_n 2, 1) := dk_28 (dk_at dksX24_upTo_1 19 rfl rfl)
theorem dX24_upTo_44 : decode cX24_upTo 44 = .ok (.ifCond .ne 18, 3) := dk_154 0 18 (dk_at dksX24_upTo_1 20 rfl rfl)
theorem dX24_upTo_47 : decode cX24_upTo 47 = .ok (.iload 4, 2) := dk_21 4 (dk_at dksX24_upTo_2 0 rfl rfl)
theorem dX24_upTo_49 : decode cX24_upTo 49 = .ok (.istore_n 3, 1) := dk_62 (dk_at dksX24_upTo_2 2 rfl rfl)
theorem dX24_upTo_50 : decode cX24_upTo 50 = .ok (.aload_n 0, 1) := dk_42 (dk_at dksX24_upTo_2 3 rfl rfl)
theorem dX24_upTo_51 : decode cX24_upTo 51 = .ok (.getfield 22, 3) := dk_180 0 22 (dk_at dksX24_upTo_2 4 rfl rfl)
theorem dX24_upTo_54 : decode cX24_upTo 54 = .ok (.iload 4, 2) := dk_21 4 (dk_at dksX24_upTo_2 7 rfl rfl)
theorem dX24_upTo_56 : decode cX24_upTo 56 = .ok (.iaload, 1) := dk_46 (dk_at dksX24_upTo_2 9 rfl rfl)
theorem dX24_upTo_57 : decode cX24_upTo 57 = .ok (.istore 4, 2) := dk_54 4 (dk_at dksX24_upTo_2 10 rfl rfl)
theorem dX24_upTo_59 : decode cX24_upTo 59 = .ok (.goto 12, 3) := dk_167 0 12 (dk_at dksX24_upTo_2 12 rfl rfl)
theorem dX24_upTo_62 : decode cX24_upTo 62 = .ok (.aload_n 0, 1) := dk_42 (dk_at dksX24_upTo_2 15 rfl rfl)
theorem dX24_upTo_63 : decode cX24_upTo 63 = .ok (.getfield 18, 3) := dk_180 0 18 (dk_at dksX24_upTo_2 16 rfl rfl)
theorem dX24_upTo_66 : decode cX24_upTo 66 = .ok (.iload 4, 2) := dk_21 4 (dk_at dksX24_upTo_2 19 rfl rfl)
theorem dX24_upTo_68 : decode cX24_upTo 68 = .ok (.iaload, 1) := dk_46 (dk_at dksX24_upTo_2 21 rfl rfl)
theorem dX24_upTo_69 : decode cX24_upTo 69 = .ok (.istore 4, 2) := dk_54 4 (dk_at dksX24_upTo_2 22 rfl rfl)
theorem dX24_upTo_71 : decode cX24_upTo 71 = .ok (.goto (-63), 3) := dk_167 255 193 (dk_at dksX24_upTo_3 0 rfl rfl)
theorem dX24_upTo_74 : decode cX24_upTo 74 = .ok (.iload_n 3, 1) := dk_29 (dk_at dksX24_upTo_3 3 rfl rfl)
theorem dX24_upTo_75 : decode cX24_upTo 75 = .ok (.ireturn, 1) := dk_172 (dk_at dksX24_upTo_3 4 rfl rfl)
abbrev cX24_last : ByteArray := prog_35_method_11_code
def yX24_last : MethodName := ⟨RX24, "last", "()I"⟩
def dkwX24_last_0 : List UInt8 := [42, 42, 180, 0, 36, 182, 0, 68, 184, 0, 65, 172]
abbrev dktX24_last_0 : List UInt8 := dkwX24_last_0 ++ []
theorem dksX24_last_0 : cX24_last.data.toList.drop 0 = dktX24_last_0 := by decide +kernel
theorem dX24_last_0 : decode cX24_last 0 = .ok (.aload_n 0, 1) := dk_42 (dk_at dksX24_last_0 0 rfl rfl)
theorem dX24_last_1 : decode cX24_last 1 = .ok (.aload_n 0, 1) := dk_42 (dk_at dksX24_last_0 1 rfl rfl)
theorem dX24_last_2 : decode cX24_last 2 = .ok (.getfield 36, 3) := dk_180 0 36 (dk_at dksX24_last_0 2 rfl rfl)
theorem dX24_last_5 : decode cX24_last 5 = .ok (.invokevirtual 68, 3) := dk_182 0 68 (dk_at dksX24_last_0 5 rfl rfl)
theorem dX24_last_8 : decode cX24_last 8 = .ok (.invokestatic 65, 3) := dk_184 0 65 (dk_at dksX24_last_0 8 rfl rfl)
theorem dX24_last_11 : decode cX24_last 11 = .ok (.ireturn, 1) := dk_172 (dk_at dksX24_last_0 11 rfl rfl)
abbrev cX24_greatest : ByteArray := prog_35_method_9_code
def yX24_greatest : MethodName := ⟨RX24, "greatest", "(I)I"⟩
def dkwX24_greatest_1 : List UInt8 := [180, 0, 22, 28, 46, 61, 167, 255, 230, 28, 172]
abbrev dktX24_greatest_1 : List UInt8 := dkwX24_greatest_1 ++ []
def dkwX24_greatest_0 : List UInt8 := [27, 61, 28, 17, 3, 232, 159, 0, 25, 42, 180, 0, 22, 28, 46, 17, 3, 232, 159, 0, 13, 42]
abbrev dktX24_greatest_0 : List UInt8 := dkwX24_greatest_0 ++ dktX24_greatest_1
theorem dksX24_greatest_0 : cX24_greatest.data.toList.drop 0 = dktX24_greatest_0 := by decide +kernel
theorem dksX24_greatest_1 : cX24_greatest.data.toList.drop 22 = dktX24_greatest_1 := dk_seg dksX24_greatest_0 22 rfl rfl
theorem dX24_greatest_0 : decode cX24_greatest 0 = .ok (.iload_n 1, 1) := dk_27 (dk_at dksX24_greatest_0 0 rfl rfl)
theorem dX24_greatest_1 : decode cX24_greatest 1 = .ok (.istore_n 2, 1) := dk_61 (dk_at dksX24_greatest_0 1 rfl rfl)
theorem dX24_greatest_2 : decode cX24_greatest 2 = .ok (.iload_n 2, 1) := dk_28 (dk_at dksX24_greatest_0 2 rfl rfl)
theorem dX24_greatest_3 : decode cX24_greatest 3 = .ok (.sipush 1000, 3) := dk_17 3 232 (dk_at dksX24_greatest_0 3 rfl rfl)
theorem dX24_greatest_6 : decode cX24_greatest 6 = .ok (.if_icmp .eq 25, 3) := dk_159 0 25 (dk_at dksX24_greatest_0 6 rfl rfl)
theorem dX24_greatest_9 : decode cX24_greatest 9 = .ok (.aload_n 0, 1) := dk_42 (dk_at dksX24_greatest_0 9 rfl rfl)
theorem dX24_greatest_10 : decode cX24_greatest 10 = .ok (.getfield 22, 3) := dk_180 0 22 (dk_at dksX24_greatest_0 10 rfl rfl)
theorem dX24_greatest_13 : decode cX24_greatest 13 = .ok (.iload_n 2, 1) := dk_28 (dk_at dksX24_greatest_0 13 rfl rfl)
theorem dX24_greatest_14 : decode cX24_greatest 14 = .ok (.iaload, 1) := dk_46 (dk_at dksX24_greatest_0 14 rfl rfl)
theorem dX24_greatest_15 : decode cX24_greatest 15 = .ok (.sipush 1000, 3) := dk_17 3 232 (dk_at dksX24_greatest_0 15 rfl rfl)
theorem dX24_greatest_18 : decode cX24_greatest 18 = .ok (.if_icmp .eq 13, 3) := dk_159 0 13 (dk_at dksX24_greatest_0 18 rfl rfl)
theorem dX24_greatest_21 : decode cX24_greatest 21 = .ok (.aload_n 0, 1) := dk_42 (dk_at dksX24_greatest_0 21 rfl rfl)
theorem dX24_greatest_22 : decode cX24_greatest 22 = .ok (.getfield 22, 3) := dk_180 0 22 (dk_at dksX24_greatest_1 0 rfl rfl)
theorem dX24_greatest_25 : decode cX24_greatest 25 = .ok (.iload_n 2, 1) := dk_28 (dk_at dksX24_greatest_1 3 rfl rfl)
theorem dX24_greatest_26 : decode cX24_greatest 26 = .ok (.iaload, 1) := dk_46 (dk_at dksX24_greatest_1 4 rfl rfl)
theorem dX24_greatest_27 : decode cX24_greatest 27 = .ok (.istore_n 2, 1) := dk_61 (dk_at dksX24_greatest_1 5 rfl rfl)
theorem dX24_greatest_28 : decode cX24_greatest 28 = .ok (.goto (-26), 3) := dk_167 255 230 (dk_at dksX24_greatest_1 6 rfl rfl)
theorem dX24_greatest_31 : decode cX24_greatest 31 = .ok (.iload_n 2, 1) := dk_28 (dk_at dksX24_greatest_1 9 rfl rfl)
theorem dX24_greatest_32 : decode cX24_greatest 32 = .ok (.ireturn, 1) := dk_172 (dk_at dksX24_greatest_1 10 rfl rfl)
abbrev cX24_told : ByteArray := prog_35_method_6_code
def yX24_told : MethodName := ⟨RX24, "told", "(I)I"⟩
def dkwX24_told_0 : List UInt8 := [26, 17, 3, 232, 160, 0, 7, 2, 167, 0, 4, 26, 172]
abbrev dktX24_told_0 : List UInt8 := dkwX24_told_0 ++ []
theorem dksX24_told_0 : cX24_told.data.toList.drop 0 = dktX24_told_0 := by decide +kernel
theorem dX24_told_0 : decode cX24_told 0 = .ok (.iload_n 0, 1) := dk_26 (dk_at dksX24_told_0 0 rfl rfl)
theorem dX24_told_1 : decode cX24_told 1 = .ok (.sipush 1000, 3) := dk_17 3 232 (dk_at dksX24_told_0 1 rfl rfl)
theorem dX24_told_4 : decode cX24_told 4 = .ok (.if_icmp .ne 7, 3) := dk_160 0 7 (dk_at dksX24_told_0 4 rfl rfl)
theorem dX24_told_7 : decode cX24_told 7 = .ok (.iconst (-1), 1) := dk_2 (dk_at dksX24_told_0 7 rfl rfl)
theorem dX24_told_8 : decode cX24_told 8 = .ok (.goto 4, 3) := dk_167 0 4 (dk_at dksX24_told_0 8 rfl rfl)
theorem dX24_told_11 : decode cX24_told 11 = .ok (.iload_n 0, 1) := dk_26 (dk_at dksX24_told_0 11 rfl rfl)
theorem dX24_told_12 : decode cX24_told 12 = .ok (.ireturn, 1) := dk_172 (dk_at dksX24_told_0 12 rfl rfl)
abbrev cX24_from : ByteArray := prog_35_method_18_code
def yX24_from : MethodName := ⟨RX24, "from", "(IZ)I"⟩
def dkwX24_from_3 : List UInt8 := [167, 255, 193, 29, 172]
abbrev dktX24_from_3 : List UInt8 := dkwX24_from_3 ++ []
def dkwX24_from_2 : List UInt8 := [21, 4, 62, 42, 180, 0, 18, 21, 4, 46, 54, 4, 167, 0, 12, 42, 180, 0, 22, 21, 4, 46, 54, 4]
abbrev dktX24_from_2 : List UInt8 := dkwX24_from_2 ++ dktX24_from_3
def dkwX24_from_1 : List UInt8 := [21, 4, 46, 27, 182, 0, 58, 54, 5, 21, 5, 157, 0, 12, 21, 5, 154, 0, 22, 28, 154, 0, 18]
abbrev dktX24_from_1 : List UInt8 := dkwX24_from_1 ++ dktX24_from_2
def dkwX24_from_0 : List UInt8 := [2, 62, 42, 180, 0, 36, 54, 4, 21, 4, 17, 3, 232, 159, 0, 61, 42, 42, 180, 0, 12, 180, 0, 55]
abbrev dktX24_from_0 : List UInt8 := dkwX24_from_0 ++ dktX24_from_1
theorem dksX24_from_0 : cX24_from.data.toList.drop 0 = dktX24_from_0 := by decide +kernel
theorem dksX24_from_1 : cX24_from.data.toList.drop 24 = dktX24_from_1 := dk_seg dksX24_from_0 24 rfl rfl
theorem dksX24_from_2 : cX24_from.data.toList.drop 47 = dktX24_from_2 := dk_seg dksX24_from_1 23 rfl rfl
theorem dksX24_from_3 : cX24_from.data.toList.drop 71 = dktX24_from_3 := dk_seg dksX24_from_2 24 rfl rfl
theorem dX24_from_0 : decode cX24_from 0 = .ok (.iconst (-1), 1) := dk_2 (dk_at dksX24_from_0 0 rfl rfl)
theorem dX24_from_1 : decode cX24_from 1 = .ok (.istore_n 3, 1) := dk_62 (dk_at dksX24_from_0 1 rfl rfl)
theorem dX24_from_2 : decode cX24_from 2 = .ok (.aload_n 0, 1) := dk_42 (dk_at dksX24_from_0 2 rfl rfl)
theorem dX24_from_3 : decode cX24_from 3 = .ok (.getfield 36, 3) := dk_180 0 36 (dk_at dksX24_from_0 3 rfl rfl)
theorem dX24_from_6 : decode cX24_from 6 = .ok (.istore 4, 2) := dk_54 4 (dk_at dksX24_from_0 6 rfl rfl)
theorem dX24_from_8 : decode cX24_from 8 = .ok (.iload 4, 2) := dk_21 4 (dk_at dksX24_from_0 8 rfl rfl)
theorem dX24_from_10 : decode cX24_from 10 = .ok (.sipush 1000, 3) := dk_17 3 232 (dk_at dksX24_from_0 10 rfl rfl)
theorem dX24_from_13 : decode cX24_from 13 = .ok (.if_icmp .eq 61, 3) := dk_159 0 61 (dk_at dksX24_from_0 13 rfl rfl)
theorem dX24_from_16 : decode cX24_from 16 = .ok (.aload_n 0, 1) := dk_42 (dk_at dksX24_from_0 16 rfl rfl)
theorem dX24_from_17 : decode cX24_from 17 = .ok (.aload_n 0, 1) := dk_42 (dk_at dksX24_from_0 17 rfl rfl)
theorem dX24_from_18 : decode cX24_from 18 = .ok (.getfield 12, 3) := dk_180 0 12 (dk_at dksX24_from_0 18 rfl rfl)
theorem dX24_from_21 : decode cX24_from 21 = .ok (.getfield 55, 3) := dk_180 0 55 (dk_at dksX24_from_0 21 rfl rfl)
theorem dX24_from_24 : decode cX24_from 24 = .ok (.iload 4, 2) := dk_21 4 (dk_at dksX24_from_1 0 rfl rfl)
theorem dX24_from_26 : decode cX24_from 26 = .ok (.iaload, 1) := dk_46 (dk_at dksX24_from_1 2 rfl rfl)
theorem dX24_from_27 : decode cX24_from 27 = .ok (.iload_n 1, 1) := dk_27 (dk_at dksX24_from_1 3 rfl rfl)
theorem dX24_from_28 : decode cX24_from 28 = .ok (.invokevirtual 58, 3) := dk_182 0 58 (dk_at dksX24_from_1 4 rfl rfl)
theorem dX24_from_31 : decode cX24_from 31 = .ok (.istore 5, 2) := dk_54 5 (dk_at dksX24_from_1 7 rfl rfl)
theorem dX24_from_33 : decode cX24_from 33 = .ok (.iload 5, 2) := dk_21 5 (dk_at dksX24_from_1 9 rfl rfl)
theorem dX24_from_35 : decode cX24_from 35 = .ok (.ifCond .gt 12, 3) := dk_157 0 12 (dk_at dksX24_from_1 11 rfl rfl)
theorem dX24_from_38 : decode cX24_from 38 = .ok (.iload 5, 2) := dk_21 5 (dk_at dksX24_from_1 14 rfl rfl)
theorem dX24_from_40 : decode cX24_from 40 = .ok (.ifCond .ne 22, 3) := dk_154 0 22 (dk_at dksX24_from_1 16 rfl rfl)
theorem dX24_from_43 : decode cX24_from 43 = .ok (.iload_n 2, 1) := dk_28 (dk_at dksX24_from_1 19 rfl rfl)
theorem dX24_from_44 : decode cX24_from 44 = .ok (.ifCond .ne 18, 3) := dk_154 0 18 (dk_at dksX24_from_1 20 rfl rfl)
theorem dX24_from_47 : decode cX24_from 47 = .ok (.iload 4, 2) := dk_21 4 (dk_at dksX24_from_2 0 rfl rfl)
theorem dX24_from_49 : decode cX24_from 49 = .ok (.istore_n 3, 1) := dk_62 (dk_at dksX24_from_2 2 rfl rfl)
theorem dX24_from_50 : decode cX24_from 50 = .ok (.aload_n 0, 1) := dk_42 (dk_at dksX24_from_2 3 rfl rfl)
theorem dX24_from_51 : decode cX24_from 51 = .ok (.getfield 18, 3) := dk_180 0 18 (dk_at dksX24_from_2 4 rfl rfl)
theorem dX24_from_54 : decode cX24_from 54 = .ok (.iload 4, 2) := dk_21 4 (dk_at dksX24_from_2 7 rfl rfl)
theorem dX24_from_56 : decode cX24_from 56 = .ok (.iaload, 1) := dk_46 (dk_at dksX24_from_2 9 rfl rfl)
theorem dX24_from_57 : decode cX24_from 57 = .ok (.istore 4, 2) := dk_54 4 (dk_at dksX24_from_2 10 rfl rfl)
theorem dX24_from_59 : decode cX24_from 59 = .ok (.goto 12, 3) := dk_167 0 12 (dk_at dksX24_from_2 12 rfl rfl)
theorem dX24_from_62 : decode cX24_from 62 = .ok (.aload_n 0, 1) := dk_42 (dk_at dksX24_from_2 15 rfl rfl)
theorem dX24_from_63 : decode cX24_from 63 = .ok (.getfield 22, 3) := dk_180 0 22 (dk_at dksX24_from_2 16 rfl rfl)
theorem dX24_from_66 : decode cX24_from 66 = .ok (.iload 4, 2) := dk_21 4 (dk_at dksX24_from_2 19 rfl rfl)
theorem dX24_from_68 : decode cX24_from 68 = .ok (.iaload, 1) := dk_46 (dk_at dksX24_from_2 21 rfl rfl)
theorem dX24_from_69 : decode cX24_from 69 = .ok (.istore 4, 2) := dk_54 4 (dk_at dksX24_from_2 22 rfl rfl)
theorem dX24_from_71 : decode cX24_from 71 = .ok (.goto (-63), 3) := dk_167 255 193 (dk_at dksX24_from_3 0 rfl rfl)
theorem dX24_from_74 : decode cX24_from 74 = .ok (.iload_n 3, 1) := dk_29 (dk_at dksX24_from_3 3 rfl rfl)
theorem dX24_from_75 : decode cX24_from 75 = .ok (.ireturn, 1) := dk_172 (dk_at dksX24_from_3 4 rfl rfl)
abbrev cX24_first : ByteArray := prog_35_method_10_code
def yX24_first : MethodName := ⟨RX24, "first", "()I"⟩
def dkwX24_first_0 : List UInt8 := [42, 42, 180, 0, 36, 182, 0, 61, 184, 0, 65, 172]
abbrev dktX24_first_0 : List UInt8 := dkwX24_first_0 ++ []
theorem dksX24_first_0 : cX24_first.data.toList.drop 0 = dktX24_first_0 := by decide +kernel
theorem dX24_first_0 : decode cX24_first 0 = .ok (.aload_n 0, 1) := dk_42 (dk_at dksX24_first_0 0 rfl rfl)
theorem dX24_first_1 : decode cX24_first 1 = .ok (.aload_n 0, 1) := dk_42 (dk_at dksX24_first_0 1 rfl rfl)
theorem dX24_first_2 : decode cX24_first 2 = .ok (.getfield 36, 3) := dk_180 0 36 (dk_at dksX24_first_0 2 rfl rfl)
theorem dX24_first_5 : decode cX24_first 5 = .ok (.invokevirtual 61, 3) := dk_182 0 61 (dk_at dksX24_first_0 5 rfl rfl)
theorem dX24_first_8 : decode cX24_first 8 = .ok (.invokestatic 65, 3) := dk_184 0 65 (dk_at dksX24_first_0 8 rfl rfl)
theorem dX24_first_11 : decode cX24_first 11 = .ok (.ireturn, 1) := dk_172 (dk_at dksX24_first_0 11 rfl rfl)
abbrev cX24_before : ByteArray := prog_35_method_13_code
def yX24_before : MethodName := ⟨RX24, "before", "(I)I"⟩
def dkwX24_before_2 : List UInt8 := [28, 160, 0, 13, 42, 180, 0, 25, 28, 46, 61, 167, 255, 222, 42, 180, 0, 25, 28, 46, 184, 0, 65, 172]
abbrev dktX24_before_2 : List UInt8 := dkwX24_before_2 ++ []
def dkwX24_before_1 : List UInt8 := [61, 42, 180, 0, 25, 28, 46, 17, 3, 232, 159, 0, 28, 42, 180, 0, 18, 42, 180, 0, 25, 28, 46, 46]
abbrev dktX24_before_1 : List UInt8 := dkwX24_before_1 ++ dktX24_before_2
def dkwX24_before_0 : List UInt8 := [42, 180, 0, 18, 27, 46, 17, 3, 232, 159, 0, 14, 42, 42, 180, 0, 18, 27, 46, 182, 0, 68, 172, 27]
abbrev dktX24_before_0 : List UInt8 := dkwX24_before_0 ++ dktX24_before_1
theorem dksX24_before_0 : cX24_before.data.toList.drop 0 = dktX24_before_0 := by decide +kernel
theorem dksX24_before_1 : cX24_before.data.toList.drop 24 = dktX24_before_1 := dk_seg dksX24_before_0 24 rfl rfl
theorem dksX24_before_2 : cX24_before.data.toList.drop 48 = dktX24_before_2 := dk_seg dksX24_before_1 24 rfl rfl
theorem dX24_before_0 : decode cX24_before 0 = .ok (.aload_n 0, 1) := dk_42 (dk_at dksX24_before_0 0 rfl rfl)
theorem dX24_before_1 : decode cX24_before 1 = .ok (.getfield 18, 3) := dk_180 0 18 (dk_at dksX24_before_0 1 rfl rfl)
theorem dX24_before_4 : decode cX24_before 4 = .ok (.iload_n 1, 1) := dk_27 (dk_at dksX24_before_0 4 rfl rfl)
theorem dX24_before_5 : decode cX24_before 5 = .ok (.iaload, 1) := dk_46 (dk_at dksX24_before_0 5 rfl rfl)
theorem dX24_before_6 : decode cX24_before 6 = .ok (.sipush 1000, 3) := dk_17 3 232 (dk_at dksX24_before_0 6 rfl rfl)
theorem dX24_before_9 : decode cX24_before 9 = .ok (.if_icmp .eq 14, 3) := dk_159 0 14 (dk_at dksX24_before_0 9 rfl rfl)
theorem dX24_before_12 : decode cX24_before 12 = .ok (.aload_n 0, 1) := dk_42 (dk_at dksX24_before_0 12 rfl rfl)
theorem dX24_before_13 : decode cX24_before 13 = .ok (.aload_n 0, 1) := dk_42 (dk_at dksX24_before_0 13 rfl rfl)
theorem dX24_before_14 : decode cX24_before 14 = .ok (.getfield 18, 3) := dk_180 0 18 (dk_at dksX24_before_0 14 rfl rfl)
theorem dX24_before_17 : decode cX24_before 17 = .ok (.iload_n 1, 1) := dk_27 (dk_at dksX24_before_0 17 rfl rfl)
theorem dX24_before_18 : decode cX24_before 18 = .ok (.iaload, 1) := dk_46 (dk_at dksX24_before_0 18 rfl rfl)
theorem dX24_before_19 : decode cX24_before 19 = .ok (.invokevirtual 68, 3) := dk_182 0 68 (dk_at dksX24_before_0 19 rfl rfl)
theorem dX24_before_22 : decode cX24_before 22 = .ok (.ireturn, 1) := dk_172 (dk_at dksX24_before_0 22 rfl rfl)
theorem dX24_before_23 : decode cX24_before 23 = .ok (.iload_n 1, 1) := dk_27 (dk_at dksX24_before_0 23 rfl rfl)
theorem dX24_before_24 : decode cX24_before 24 = .ok (.istore_n 2, 1) := dk_61 (dk_at dksX24_before_1 0 rfl rfl)
theorem dX24_before_25 : decode cX24_before 25 = .ok (.aload_n 0, 1) := dk_42 (dk_at dksX24_before_1 1 rfl rfl)
theorem dX24_before_26 : decode cX24_before 26 = .ok (.getfield 25, 3) := dk_180 0 25 (dk_at dksX24_before_1 2 rfl rfl)
theorem dX24_before_29 : decode cX24_before 29 = .ok (.iload_n 2, 1) := dk_28 (dk_at dksX24_before_1 5 rfl rfl)
theorem dX24_before_30 : decode cX24_before 30 = .ok (.iaload, 1) := dk_46 (dk_at dksX24_before_1 6 rfl rfl)
theorem dX24_before_31 : decode cX24_before 31 = .ok (.sipush 1000, 3) := dk_17 3 232 (dk_at dksX24_before_1 7 rfl rfl)
theorem dX24_before_34 : decode cX24_before 34 = .ok (.if_icmp .eq 28, 3) := dk_159 0 28 (dk_at dksX24_before_1 10 rfl rfl)
theorem dX24_before_37 : decode cX24_before 37 = .ok (.aload_n 0, 1) := dk_42 (dk_at dksX24_before_1 13 rfl rfl)
theorem dX24_before_38 : decode cX24_before 38 = .ok (.getfield 18, 3) := dk_180 0 18 (dk_at dksX24_before_1 14 rfl rfl)
theorem dX24_before_41 : decode cX24_before 41 = .ok (.aload_n 0, 1) := dk_42 (dk_at dksX24_before_1 17 rfl rfl)
theorem dX24_before_42 : decode cX24_before 42 = .ok (.getfield 25, 3) := dk_180 0 25 (dk_at dksX24_before_1 18 rfl rfl)
theorem dX24_before_45 : decode cX24_before 45 = .ok (.iload_n 2, 1) := dk_28 (dk_at dksX24_before_1 21 rfl rfl)
theorem dX24_before_46 : decode cX24_before 46 = .ok (.iaload, 1) := dk_46 (dk_at dksX24_before_1 22 rfl rfl)
theorem dX24_before_47 : decode cX24_before 47 = .ok (.iaload, 1) := dk_46 (dk_at dksX24_before_1 23 rfl rfl)
theorem dX24_before_48 : decode cX24_before 48 = .ok (.iload_n 2, 1) := dk_28 (dk_at dksX24_before_2 0 rfl rfl)
theorem dX24_before_49 : decode cX24_before 49 = .ok (.if_icmp .ne 13, 3) := dk_160 0 13 (dk_at dksX24_before_2 1 rfl rfl)
theorem dX24_before_52 : decode cX24_before 52 = .ok (.aload_n 0, 1) := dk_42 (dk_at dksX24_before_2 4 rfl rfl)
theorem dX24_before_53 : decode cX24_before 53 = .ok (.getfield 25, 3) := dk_180 0 25 (dk_at dksX24_before_2 5 rfl rfl)
theorem dX24_before_56 : decode cX24_before 56 = .ok (.iload_n 2, 1) := dk_28 (dk_at dksX24_before_2 8 rfl rfl)
theorem dX24_before_57 : decode cX24_before 57 = .ok (.iaload, 1) := dk_46 (dk_at dksX24_before_2 9 rfl rfl)
theorem dX24_before_58 : decode cX24_before 58 = .ok (.istore_n 2, 1) := dk_61 (dk_at dksX24_before_2 10 rfl rfl)
theorem dX24_before_59 : decode cX24_before 59 = .ok (.goto (-34), 3) := dk_167 255 222 (dk_at dksX24_before_2 11 rfl rfl)
theorem dX24_before_62 : decode cX24_before 62 = .ok (.aload_n 0, 1) := dk_42 (dk_at dksX24_before_2 14 rfl rfl)
theorem dX24_before_63 : decode cX24_before 63 = .ok (.getfield 25, 3) := dk_180 0 25 (dk_at dksX24_before_2 15 rfl rfl)
theorem dX24_before_66 : decode cX24_before 66 = .ok (.iload_n 2, 1) := dk_28 (dk_at dksX24_before_2 18 rfl rfl)
theorem dX24_before_67 : decode cX24_before 67 = .ok (.iaload, 1) := dk_46 (dk_at dksX24_before_2 19 rfl rfl)
theorem dX24_before_68 : decode cX24_before 68 = .ok (.invokestatic 65, 3) := dk_184 0 65 (dk_at dksX24_before_2 20 rfl rfl)
theorem dX24_before_71 : decode cX24_before 71 = .ok (.ireturn, 1) := dk_172 (dk_at dksX24_before_2 23 rfl rfl)
abbrev cX24_next : ByteArray := prog_35_method_12_code
def yX24_next : MethodName := ⟨RX24, "next", "(I)I"⟩
def dkwX24_next_2 : List UInt8 := [28, 160, 0, 13, 42, 180, 0, 25, 28, 46, 61, 167, 255, 222, 42, 180, 0, 25, 28, 46, 184, 0, 65, 172]
abbrev dktX24_next_2 : List UInt8 := dkwX24_next_2 ++ []
def dkwX24_next_1 : List UInt8 := [61, 42, 180, 0, 25, 28, 46, 17, 3, 232, 159, 0, 28, 42, 180, 0, 22, 42, 180, 0, 25, 28, 46, 46]
abbrev dktX24_next_1 : List UInt8 := dkwX24_next_1 ++ dktX24_next_2
def dkwX24_next_0 : List UInt8 := [42, 180, 0, 22, 27, 46, 17, 3, 232, 159, 0, 14, 42, 42, 180, 0, 22, 27, 46, 182, 0, 61, 172, 27]
abbrev dktX24_next_0 : List UInt8 := dkwX24_next_0 ++ dktX24_next_1
theorem dksX24_next_0 : cX24_next.data.toList.drop 0 = dktX24_next_0 := by decide +kernel
theorem dksX24_next_1 : cX24_next.data.toList.drop 24 = dktX24_next_1 := dk_seg dksX24_next_0 24 rfl rfl
theorem dksX24_next_2 : cX24_next.data.toList.drop 48 = dktX24_next_2 := dk_seg dksX24_next_1 24 rfl rfl
theorem dX24_next_0 : decode cX24_next 0 = .ok (.aload_n 0, 1) := dk_42 (dk_at dksX24_next_0 0 rfl rfl)
theorem dX24_next_1 : decode cX24_next 1 = .ok (.getfield 22, 3) := dk_180 0 22 (dk_at dksX24_next_0 1 rfl rfl)
theorem dX24_next_4 : decode cX24_next 4 = .ok (.iload_n 1, 1) := dk_27 (dk_at dksX24_next_0 4 rfl rfl)
theorem dX24_next_5 : decode cX24_next 5 = .ok (.iaload, 1) := dk_46 (dk_at dksX24_next_0 5 rfl rfl)
theorem dX24_next_6 : decode cX24_next 6 = .ok (.sipush 1000, 3) := dk_17 3 232 (dk_at dksX24_next_0 6 rfl rfl)
theorem dX24_next_9 : decode cX24_next 9 = .ok (.if_icmp .eq 14, 3) := dk_159 0 14 (dk_at dksX24_next_0 9 rfl rfl)
theorem dX24_next_12 : decode cX24_next 12 = .ok (.aload_n 0, 1) := dk_42 (dk_at dksX24_next_0 12 rfl rfl)
theorem dX24_next_13 : decode cX24_next 13 = .ok (.aload_n 0, 1) := dk_42 (dk_at dksX24_next_0 13 rfl rfl)
theorem dX24_next_14 : decode cX24_next 14 = .ok (.getfield 22, 3) := dk_180 0 22 (dk_at dksX24_next_0 14 rfl rfl)
theorem dX24_next_17 : decode cX24_next 17 = .ok (.iload_n 1, 1) := dk_27 (dk_at dksX24_next_0 17 rfl rfl)
theorem dX24_next_18 : decode cX24_next 18 = .ok (.iaload, 1) := dk_46 (dk_at dksX24_next_0 18 rfl rfl)
theorem dX24_next_19 : decode cX24_next 19 = .ok (.invokevirtual 61, 3) := dk_182 0 61 (dk_at dksX24_next_0 19 rfl rfl)
theorem dX24_next_22 : decode cX24_next 22 = .ok (.ireturn, 1) := dk_172 (dk_at dksX24_next_0 22 rfl rfl)
theorem dX24_next_23 : decode cX24_next 23 = .ok (.iload_n 1, 1) := dk_27 (dk_at dksX24_next_0 23 rfl rfl)
theorem dX24_next_24 : decode cX24_next 24 = .ok (.istore_n 2, 1) := dk_61 (dk_at dksX24_next_1 0 rfl rfl)
theorem dX24_next_25 : decode cX24_next 25 = .ok (.aload_n 0, 1) := dk_42 (dk_at dksX24_next_1 1 rfl rfl)
theorem dX24_next_26 : decode cX24_next 26 = .ok (.getfield 25, 3) := dk_180 0 25 (dk_at dksX24_next_1 2 rfl rfl)
theorem dX24_next_29 : decode cX24_next 29 = .ok (.iload_n 2, 1) := dk_28 (dk_at dksX24_next_1 5 rfl rfl)
theorem dX24_next_30 : decode cX24_next 30 = .ok (.iaload, 1) := dk_46 (dk_at dksX24_next_1 6 rfl rfl)
theorem dX24_next_31 : decode cX24_next 31 = .ok (.sipush 1000, 3) := dk_17 3 232 (dk_at dksX24_next_1 7 rfl rfl)
theorem dX24_next_34 : decode cX24_next 34 = .ok (.if_icmp .eq 28, 3) := dk_159 0 28 (dk_at dksX24_next_1 10 rfl rfl)
theorem dX24_next_37 : decode cX24_next 37 = .ok (.aload_n 0, 1) := dk_42 (dk_at dksX24_next_1 13 rfl rfl)
theorem dX24_next_38 : decode cX24_next 38 = .ok (.getfield 22, 3) := dk_180 0 22 (dk_at dksX24_next_1 14 rfl rfl)
theorem dX24_next_41 : decode cX24_next 41 = .ok (.aload_n 0, 1) := dk_42 (dk_at dksX24_next_1 17 rfl rfl)
theorem dX24_next_42 : decode cX24_next 42 = .ok (.getfield 25, 3) := dk_180 0 25 (dk_at dksX24_next_1 18 rfl rfl)
theorem dX24_next_45 : decode cX24_next 45 = .ok (.iload_n 2, 1) := dk_28 (dk_at dksX24_next_1 21 rfl rfl)
theorem dX24_next_46 : decode cX24_next 46 = .ok (.iaload, 1) := dk_46 (dk_at dksX24_next_1 22 rfl rfl)
theorem dX24_next_47 : decode cX24_next 47 = .ok (.iaload, 1) := dk_46 (dk_at dksX24_next_1 23 rfl rfl)
theorem dX24_next_48 : decode cX24_next 48 = .ok (.iload_n 2, 1) := dk_28 (dk_at dksX24_next_2 0 rfl rfl)
theorem dX24_next_49 : decode cX24_next 49 = .ok (.if_icmp .ne 13, 3) := dk_160 0 13 (dk_at dksX24_next_2 1 rfl rfl)
theorem dX24_next_52 : decode cX24_next 52 = .ok (.aload_n 0, 1) := dk_42 (dk_at dksX24_next_2 4 rfl rfl)
theorem dX24_next_53 : decode cX24_next 53 = .ok (.getfield 25, 3) := dk_180 0 25 (dk_at dksX24_next_2 5 rfl rfl)
theorem dX24_next_56 : decode cX24_next 56 = .ok (.iload_n 2, 1) := dk_28 (dk_at dksX24_next_2 8 rfl rfl)
theorem dX24_next_57 : decode cX24_next 57 = .ok (.iaload, 1) := dk_46 (dk_at dksX24_next_2 9 rfl rfl)
theorem dX24_next_58 : decode cX24_next 58 = .ok (.istore_n 2, 1) := dk_61 (dk_at dksX24_next_2 10 rfl rfl)
theorem dX24_next_59 : decode cX24_next 59 = .ok (.goto (-34), 3) := dk_167 255 222 (dk_at dksX24_next_2 11 rfl rfl)
theorem dX24_next_62 : decode cX24_next 62 = .ok (.aload_n 0, 1) := dk_42 (dk_at dksX24_next_2 14 rfl rfl)
theorem dX24_next_63 : decode cX24_next 63 = .ok (.getfield 25, 3) := dk_180 0 25 (dk_at dksX24_next_2 15 rfl rfl)
theorem dX24_next_66 : decode cX24_next 66 = .ok (.iload_n 2, 1) := dk_28 (dk_at dksX24_next_2 18 rfl rfl)
theorem dX24_next_67 : decode cX24_next 67 = .ok (.iaload, 1) := dk_46 (dk_at dksX24_next_2 19 rfl rfl)
theorem dX24_next_68 : decode cX24_next 68 = .ok (.invokestatic 65, 3) := dk_184 0 65 (dk_at dksX24_next_2 20 rfl rfl)
theorem dX24_next_71 : decode cX24_next 71 = .ok (.ireturn, 1) := dk_172 (dk_at dksX24_next_2 23 rfl rfl)
abbrev cX24_size : ByteArray := prog_35_method_4_code
def yX24_size : MethodName := ⟨RX24, "size", "()I"⟩
def dkwX24_size_0 : List UInt8 := [42, 180, 0, 12, 180, 0, 52, 172]
abbrev dktX24_size_0 : List UInt8 := dkwX24_size_0 ++ []
theorem dksX24_size_0 : cX24_size.data.toList.drop 0 = dktX24_size_0 := by decide +kernel
theorem dX24_size_0 : decode cX24_size 0 = .ok (.aload_n 0, 1) := dk_42 (dk_at dksX24_size_0 0 rfl rfl)
theorem dX24_size_1 : decode cX24_size 1 = .ok (.getfield 12, 3) := dk_180 0 12 (dk_at dksX24_size_0 1 rfl rfl)
theorem dX24_size_4 : decode cX24_size 4 = .ok (.getfield 52, 3) := dk_180 0 52 (dk_at dksX24_size_0 4 rfl rfl)
theorem dX24_size_7 : decode cX24_size 7 = .ok (.ireturn, 1) := dk_172 (dk_at dksX24_size_0 7 rfl rfl)
abbrev cX24_clear : ByteArray := prog_35_method_28_code
def yX24_clear : MethodName := ⟨RX24, "clea\x72", "()V"⟩
def dkwX24_clear_1 : List UInt8 := [182, 0, 32, 42, 17, 3, 232, 181, 0, 36, 177]
abbrev dktX24_clear_1 : List UInt8 := dkwX24_clear_1 ++ []
def dkwX24_clear_0 : List UInt8 := [42, 180, 0, 12, 180, 0, 52, 158, 0, 13, 42, 89, 180, 0, 43, 4, 96, 181, 0, 43, 42, 180, 0, 12]
abbrev dktX24_clear_0 : List UInt8 := dkwX24_clear_0 ++ dktX24_clear_1
theorem dksX24_clear_0 : cX24_clear.data.toList.drop 0 = dktX24_clear_0 := by decide +kernel
theorem dksX24_clear_1 : cX24_clear.data.toList.drop 24 = dktX24_clear_1 := dk_seg dksX24_clear_0 24 rfl rfl
theorem dX24_clear_0 : decode cX24_clear 0 = .ok (.aload_n 0, 1) := dk_42 (dk_at dksX24_clear_0 0 rfl rfl)
theorem dX24_clear_1 : decode cX24_clear 1 = .ok (.getfield 12, 3) := dk_180 0 12 (dk_at dksX24_clear_0 1 rfl rfl)
theorem dX24_clear_4 : decode cX24_clear 4 = .ok (.getfield 52, 3) := dk_180 0 52 (dk_at dksX24_clear_0 4 rfl rfl)
theorem dX24_clear_7 : decode cX24_clear 7 = .ok (.ifCond .le 13, 3) := dk_158 0 13 (dk_at dksX24_clear_0 7 rfl rfl)
theorem dX24_clear_10 : decode cX24_clear 10 = .ok (.aload_n 0, 1) := dk_42 (dk_at dksX24_clear_0 10 rfl rfl)
theorem dX24_clear_11 : decode cX24_clear 11 = .ok (.dup, 1) := dk_89 (dk_at dksX24_clear_0 11 rfl rfl)
theorem dX24_clear_12 : decode cX24_clear 12 = .ok (.getfield 43, 3) := dk_180 0 43 (dk_at dksX24_clear_0 12 rfl rfl)
theorem dX24_clear_15 : decode cX24_clear 15 = .ok (.iconst 1, 1) := dk_4 (dk_at dksX24_clear_0 15 rfl rfl)
theorem dX24_clear_16 : decode cX24_clear 16 = .ok (.iadd, 1) := dk_96 (dk_at dksX24_clear_0 16 rfl rfl)
theorem dX24_clear_17 : decode cX24_clear 17 = .ok (.putfield 43, 3) := dk_181 0 43 (dk_at dksX24_clear_0 17 rfl rfl)
theorem dX24_clear_20 : decode cX24_clear 20 = .ok (.aload_n 0, 1) := dk_42 (dk_at dksX24_clear_0 20 rfl rfl)
theorem dX24_clear_21 : decode cX24_clear 21 = .ok (.getfield 12, 3) := dk_180 0 12 (dk_at dksX24_clear_0 21 rfl rfl)
theorem dX24_clear_24 : decode cX24_clear 24 = .ok (.invokevirtual 32, 3) := dk_182 0 32 (dk_at dksX24_clear_1 0 rfl rfl)
theorem dX24_clear_27 : decode cX24_clear 27 = .ok (.aload_n 0, 1) := dk_42 (dk_at dksX24_clear_1 3 rfl rfl)
theorem dX24_clear_28 : decode cX24_clear 28 = .ok (.sipush 1000, 3) := dk_17 3 232 (dk_at dksX24_clear_1 4 rfl rfl)
theorem dX24_clear_31 : decode cX24_clear 31 = .ok (.putfield 36, 3) := dk_181 0 36 (dk_at dksX24_clear_1 7 rfl rfl)
theorem dX24_clear_34 : decode cX24_clear 34 = .ok (.return_, 1) := dk_177 (dk_at dksX24_clear_1 10 rfl rfl)
abbrev cX24_changes : ByteArray := prog_35_method_5_code
def yX24_changes : MethodName := ⟨RX24, "changes", "()I"⟩
theorem dX24_changes_0 : decode cX24_changes 0 = .ok (.aload_n 0, 1) := by decide +kernel
theorem dX24_changes_1 : decode cX24_changes 1 = .ok (.getfield 43, 3) := by decide +kernel
theorem dX24_changes_4 : decode cX24_changes 4 = .ok (.ireturn, 1) := by decide +kernel
theorem q540 : (Jvm.Cond.initialized "LibraryDesk$TreeThing") ∈ lw_all := lw_g (lw_at lw_m1 33 rfl) rfl
theorem q1449 : (Jvm.Cond.fieldLinkNest "LibraryDesk$TreeThing" (55 : Nat) "LibraryDesk$Slots" "key" "[I" "LibraryDesk") ∈ lw_tbl := lw_at lw_m4 222 rfl
theorem q1454 : (Jvm.Cond.fieldLinkNest "LibraryDesk$TreeThing" (71 : Nat) "LibraryDesk$Slots" "value" "[I" "LibraryDesk") ∈ lw_tbl := lw_at lw_m4 227 rfl
theorem q1462 : (Jvm.Cond.fieldLinkNest "LibraryDesk$TreeThing" (52 : Nat) "LibraryDesk$Slots" "size" "I" "LibraryDesk") ∈ lw_tbl := lw_at lw_m4 235 rfl
theorem q1548 : (Jvm.Cond.instantiable "LibraryDesk$TreeThing" (10 : Nat)) ∈ lw_all := lw_g (lw_at lw_m5 81 rfl) rfl
theorem q1550 : (Jvm.Cond.instanceMethod ({ cls := "LibraryDesk$TreeThing", name := "<init>", desc := "()V" } : Jvm.MethodName)) ∈ lw_all := lw_g (lw_at lw_m5 83 rfl) rfl
theorem q1551 : (Jvm.Cond.code ({ cls := "LibraryDesk$TreeThing", name := "<init>", desc := "()V" } : Jvm.MethodName) prog_35_method_1_code (1 : Nat) (Option.none : Option Jvm.ClassFile.FieldType)) ∈ lw_all := lw_g (lw_at lw_m5 84 rfl) rfl
theorem q1552 : (Jvm.Cond.methodLinkNest "LibraryDesk$TreeThing" (3 : Nat) ({ cls := "LibraryDesk$Maps", name := "<init>", desc := "(I)V" } : Jvm.MethodName) "LibraryDesk") ∈ lw_tbl := lw_at lw_m5 85 rfl
theorem q1553 : (Jvm.Cond.classLink "LibraryDesk$TreeThing" (9 : Nat) "LibraryDesk$Slots") ∈ lw_all := lw_g (lw_at lw_m5 86 rfl) rfl
theorem q1554 : (Jvm.Cond.methodLinkNest "LibraryDesk$TreeThing" (11 : Nat) ({ cls := "LibraryDesk$Slots", name := "<init>", desc := "(I)V" } : Jvm.MethodName) "LibraryDesk") ∈ lw_tbl := lw_at lw_m5 87 rfl
theorem q1555 : (Jvm.Cond.fieldLink "LibraryDesk$TreeThing" (12 : Nat) "LibraryDesk$TreeThing" "slots" "LLibraryDesk$Slots;") ∈ lw_all := lw_g (lw_at lw_m5 88 rfl) rfl
theorem q1556 : (Jvm.Cond.fieldLink "LibraryDesk$TreeThing" (18 : Nat) "LibraryDesk$TreeThing" "left" "[I") ∈ lw_all := lw_g (lw_at lw_m5 89 rfl) rfl
theorem q1557 : (Jvm.Cond.fieldLink "LibraryDesk$TreeThing" (22 : Nat) "LibraryDesk$TreeThing" "right" "[I") ∈ lw_all := lw_g (lw_at lw_m5 90 rfl) rfl
theorem q1558 : (Jvm.Cond.fieldLink "LibraryDesk$TreeThing" (25 : Nat) "LibraryDesk$TreeThing" "up" "[I") ∈ lw_all := lw_g (lw_at lw_m5 91 rfl) rfl
theorem q1559 : (Jvm.Cond.fieldLink "LibraryDesk$TreeThing" (28 : Nat) "LibraryDesk$TreeThing" "red" "[Z") ∈ lw_all := lw_g (lw_at lw_m5 92 rfl) rfl
theorem q1560 : (Jvm.Cond.fieldLink "LibraryDesk$TreeThing" (36 : Nat) "LibraryDesk$TreeThing" "root" "I") ∈ lw_all := lw_g (lw_at lw_m5 93 rfl) rfl
theorem q1561 : (Jvm.Cond.fieldLink "LibraryDesk$TreeThing" (40 : Nat) "LibraryDesk$TreeThing" "orde\x72" "I") ∈ lw_all := lw_g (lw_at lw_m5 94 rfl) rfl
theorem q1562 : (Jvm.Cond.fieldLink "LibraryDesk$TreeThing" (43 : Nat) "LibraryDesk$TreeThing" "changes" "I") ∈ lw_all := lw_g (lw_at lw_m5 95 rfl) rfl
theorem q1564 : (Jvm.Cond.laysFinal "LibraryDesk$TreeThing" "LibraryDesk$TreeThing" "slots" "LLibraryDesk$Slots;") ∈ lw_all := lw_g (lw_at lw_m5 97 rfl) rfl
theorem q1565 : (Jvm.Cond.soleField "LibraryDesk$TreeThing" "slots") ∈ lw_all := lw_g (lw_at lw_m5 98 rfl) rfl
theorem q1566 : (Jvm.Cond.laysFinal "LibraryDesk$TreeThing" "LibraryDesk$TreeThing" "left" "[I") ∈ lw_all := lw_g (lw_at lw_m5 99 rfl) rfl
theorem q1567 : (Jvm.Cond.soleField "LibraryDesk$TreeThing" "left") ∈ lw_all := lw_g (lw_at lw_m5 100 rfl) rfl
theorem q1568 : (Jvm.Cond.laysFinal "LibraryDesk$TreeThing" "LibraryDesk$TreeThing" "right" "[I") ∈ lw_all := lw_g (lw_at lw_m5 101 rfl) rfl
theorem q1569 : (Jvm.Cond.soleField "LibraryDesk$TreeThing" "right") ∈ lw_all := lw_g (lw_at lw_m5 102 rfl) rfl
theorem q1570 : (Jvm.Cond.laysFinal "LibraryDesk$TreeThing" "LibraryDesk$TreeThing" "up" "[I") ∈ lw_all := lw_g (lw_at lw_m5 103 rfl) rfl
theorem q1571 : (Jvm.Cond.soleField "LibraryDesk$TreeThing" "up") ∈ lw_all := lw_g (lw_at lw_m5 104 rfl) rfl
theorem q1572 : (Jvm.Cond.laysFinal "LibraryDesk$TreeThing" "LibraryDesk$TreeThing" "red" "[Z") ∈ lw_all := lw_g (lw_at lw_m5 105 rfl) rfl
theorem q1573 : (Jvm.Cond.soleField "LibraryDesk$TreeThing" "red") ∈ lw_all := lw_g (lw_at lw_m5 106 rfl) rfl
theorem q1574 : (Jvm.Cond.lays "LibraryDesk$TreeThing" "LibraryDesk$TreeThing" "root" "I") ∈ lw_all := lw_g (lw_at lw_m5 107 rfl) rfl
theorem q1575 : (Jvm.Cond.soleField "LibraryDesk$TreeThing" "root") ∈ lw_all := lw_g (lw_at lw_m5 108 rfl) rfl
theorem q1576 : (Jvm.Cond.lays "LibraryDesk$TreeThing" "LibraryDesk$TreeThing" "orde\x72" "I") ∈ lw_all := lw_g (lw_at lw_m5 109 rfl) rfl
theorem q1577 : (Jvm.Cond.soleField "LibraryDesk$TreeThing" "orde\x72") ∈ lw_all := lw_g (lw_at lw_m5 110 rfl) rfl
theorem q1578 : (Jvm.Cond.lays "LibraryDesk$TreeThing" "LibraryDesk$TreeThing" "changes" "I") ∈ lw_all := lw_g (lw_at lw_m5 111 rfl) rfl
theorem q1579 : (Jvm.Cond.soleField "LibraryDesk$TreeThing" "changes") ∈ lw_all := lw_g (lw_at lw_m5 112 rfl) rfl
theorem q1580 : (Jvm.Cond.laysFinal "LibraryDesk$TreeThing" "LibraryDesk$Thing" "kind" "I") ∈ lw_all := lw_g (lw_at lw_m5 113 rfl) rfl
theorem q1581 : (Jvm.Cond.lays "LibraryDesk$TreeThing" "LibraryDesk$Thing" "used" "Z") ∈ lw_all := lw_g (lw_at lw_m5 114 rfl) rfl
theorem q1582 : (Jvm.Cond.superclass "LibraryDesk$TreeThing" "LibraryDesk$Maps") ∈ lw_all := lw_g (lw_at lw_m5 115 rfl) rfl
theorem q1904 : (Jvm.Cond.privateMethod ({ cls := "LibraryDesk$TreeThing", name := "begin", desc := "(I)V" } : Jvm.MethodName)) ∈ lw_tbl := lw_at lw_m6 197 rfl
theorem q1905 : (Jvm.Cond.instanceMethod ({ cls := "LibraryDesk$TreeThing", name := "begin", desc := "(I)V" } : Jvm.MethodName)) ∈ lw_all := lw_g (lw_at lw_m6 198 rfl) rfl
theorem q1906 : (Jvm.Cond.code ({ cls := "LibraryDesk$TreeThing", name := "begin", desc := "(I)V" } : Jvm.MethodName) prog_35_method_2_code (2 : Nat) (Option.none : Option Jvm.ClassFile.FieldType)) ∈ lw_all := lw_g (lw_at lw_m6 199 rfl) rfl
theorem q1907 : (Jvm.Cond.methodLinkNest "LibraryDesk$TreeThing" (32 : Nat) ({ cls := "LibraryDesk$Slots", name := "clea\x72", desc := "()V" } : Jvm.MethodName) "LibraryDesk") ∈ lw_tbl := lw_at lw_m6 200 rfl
theorem q2321 : (Jvm.Cond.selects "LibraryDesk$TreeThing" ({ cls := "LibraryDesk$Maps", name := "kind", desc := "()I" } : Jvm.MethodName) ({ cls := "LibraryDesk$Thing", name := "kind", desc := "()I" } : Jvm.MethodName)) ∈ lw_all := lw_g (lw_at lw_m8 134 rfl) rfl
theorem q2329 : (Jvm.Cond.selects "LibraryDesk$TreeThing" ({ cls := "LibraryDesk$Maps", name := "put", desc := "(IIZZ)J" } : Jvm.MethodName) ({ cls := "LibraryDesk$Maps", name := "put", desc := "(IIZZ)J" } : Jvm.MethodName)) ∈ lw_all := lw_g (lw_at lw_m8 142 rfl) rfl
theorem q2354 : (Jvm.Cond.instanceMethod ({ cls := "LibraryDesk$TreeThing", name := "find", desc := "(I)I" } : Jvm.MethodName)) ∈ lw_all := lw_g (lw_at lw_m8 167 rfl) rfl
theorem q2355 : (Jvm.Cond.selects "LibraryDesk$TreeThing" ({ cls := "LibraryDesk$TreeThing", name := "find", desc := "(I)I" } : Jvm.MethodName) ({ cls := "LibraryDesk$TreeThing", name := "find", desc := "(I)I" } : Jvm.MethodName)) ∈ lw_all := lw_g (lw_at lw_m8 168 rfl) rfl
theorem q2356 : (Jvm.Cond.code ({ cls := "LibraryDesk$TreeThing", name := "find", desc := "(I)I" } : Jvm.MethodName) prog_35_method_7_code (4 : Nat) (Option.some Jvm.ClassFile.FieldType.int)) ∈ lw_all := lw_g (lw_at lw_m8 169 rfl) rfl
theorem q2357 : (Jvm.Cond.methodLink "LibraryDesk$TreeThing" (58 : Nat) ({ cls := "LibraryDesk$TreeThing", name := "compare", desc := "(II)I" } : Jvm.MethodName)) ∈ lw_all := lw_g (lw_at lw_m8 170 rfl) rfl
theorem q2358 : (Jvm.Cond.instanceMethod ({ cls := "LibraryDesk$TreeThing", name := "compare", desc := "(II)I" } : Jvm.MethodName)) ∈ lw_all := lw_g (lw_at lw_m8 171 rfl) rfl
theorem q2359 : (Jvm.Cond.selects "LibraryDesk$TreeThing" ({ cls := "LibraryDesk$TreeThing", name := "compare", desc := "(II)I" } : Jvm.MethodName) ({ cls := "LibraryDesk$TreeThing", name := "compare", desc := "(II)I" } : Jvm.MethodName)) ∈ lw_all := lw_g (lw_at lw_m8 172 rfl) rfl
theorem q2360 : (Jvm.Cond.code ({ cls := "LibraryDesk$TreeThing", name := "compare", desc := "(II)I" } : Jvm.MethodName) prog_35_method_3_code (3 : Nat) (Option.some Jvm.ClassFile.FieldType.int)) ∈ lw_all := lw_g (lw_at lw_m8 173 rfl) rfl
theorem q2361 : (Jvm.Cond.methodLinkNest "LibraryDesk$TreeThing" (46 : Nat) ({ cls := "LibraryDesk$Orders", name := "compare", desc := "(III)I" } : Jvm.MethodName) "LibraryDesk") ∈ lw_tbl := lw_at lw_m8 174 rfl
theorem q2367 : (Jvm.Cond.instanceMethod ({ cls := "LibraryDesk$TreeThing", name := "key", desc := "(I)I" } : Jvm.MethodName)) ∈ lw_all := lw_g (lw_at lw_m8 180 rfl) rfl
theorem q2368 : (Jvm.Cond.selects "LibraryDesk$TreeThing" ({ cls := "LibraryDesk$TreeThing", name := "key", desc := "(I)I" } : Jvm.MethodName) ({ cls := "LibraryDesk$TreeThing", name := "key", desc := "(I)I" } : Jvm.MethodName)) ∈ lw_all := lw_g (lw_at lw_m8 181 rfl) rfl
theorem q2369 : (Jvm.Cond.code ({ cls := "LibraryDesk$TreeThing", name := "key", desc := "(I)I" } : Jvm.MethodName) prog_35_method_14_code (2 : Nat) (Option.some Jvm.ClassFile.FieldType.int)) ∈ lw_all := lw_g (lw_at lw_m8 182 rfl) rfl
theorem q2375 : (Jvm.Cond.selects "LibraryDesk$TreeThing" ({ cls := "LibraryDesk$Maps", name := "find", desc := "(I)I" } : Jvm.MethodName) ({ cls := "LibraryDesk$TreeThing", name := "find", desc := "(I)I" } : Jvm.MethodName)) ∈ lw_all := lw_g (lw_at lw_m8 188 rfl) rfl
theorem q2382 : (Jvm.Cond.selects "LibraryDesk$TreeThing" ({ cls := "LibraryDesk$Maps", name := "found", desc := "(I)J" } : Jvm.MethodName) ({ cls := "LibraryDesk$Maps", name := "found", desc := "(I)J" } : Jvm.MethodName)) ∈ lw_all := lw_g (lw_at lw_m8 195 rfl) rfl
theorem q2398 : (Jvm.Cond.instanceMethod ({ cls := "LibraryDesk$TreeThing", name := "value", desc := "(I)I" } : Jvm.MethodName)) ∈ lw_all := lw_g (lw_at lw_m8 211 rfl) rfl
theorem q2399 : (Jvm.Cond.selects "LibraryDesk$TreeThing" ({ cls := "LibraryDesk$TreeThing", name := "value", desc := "(I)I" } : Jvm.MethodName) ({ cls := "LibraryDesk$TreeThing", name := "value", desc := "(I)I" } : Jvm.MethodName)) ∈ lw_all := lw_g (lw_at lw_m8 212 rfl) rfl
theorem q2400 : (Jvm.Cond.code ({ cls := "LibraryDesk$TreeThing", name := "value", desc := "(I)I" } : Jvm.MethodName) prog_35_method_15_code (2 : Nat) (Option.some Jvm.ClassFile.FieldType.int)) ∈ lw_all := lw_g (lw_at lw_m8 213 rfl) rfl
theorem q2401 : (Jvm.Cond.selects "LibraryDesk$TreeThing" ({ cls := "LibraryDesk$Maps", name := "value", desc := "(I)I" } : Jvm.MethodName) ({ cls := "LibraryDesk$TreeThing", name := "value", desc := "(I)I" } : Jvm.MethodName)) ∈ lw_all := lw_g (lw_at lw_m8 214 rfl) rfl
theorem q2415 : (Jvm.Cond.instanceMethod ({ cls := "LibraryDesk$TreeThing", name := "setValue", desc := "(II)V" } : Jvm.MethodName)) ∈ lw_all := lw_g (lw_at lw_m8 228 rfl) rfl
theorem q2416 : (Jvm.Cond.selects "LibraryDesk$TreeThing" ({ cls := "LibraryDesk$TreeThing", name := "setValue", desc := "(II)V" } : Jvm.MethodName) ({ cls := "LibraryDesk$TreeThing", name := "setValue", desc := "(II)V" } : Jvm.MethodName)) ∈ lw_all := lw_g (lw_at lw_m8 229 rfl) rfl
theorem q2417 : (Jvm.Cond.code ({ cls := "LibraryDesk$TreeThing", name := "setValue", desc := "(II)V" } : Jvm.MethodName) prog_35_method_16_code (3 : Nat) (Option.none : Option Jvm.ClassFile.FieldType)) ∈ lw_all := lw_g (lw_at lw_m8 230 rfl) rfl
theorem q2418 : (Jvm.Cond.selects "LibraryDesk$TreeThing" ({ cls := "LibraryDesk$Maps", name := "setValue", desc := "(II)V" } : Jvm.MethodName) ({ cls := "LibraryDesk$TreeThing", name := "setValue", desc := "(II)V" } : Jvm.MethodName)) ∈ lw_all := lw_g (lw_at lw_m8 231 rfl) rfl
theorem q2435 : (Jvm.Cond.selects "LibraryDesk$TreeThing" ({ cls := "LibraryDesk$Maps", name := "use", desc := "(I)V" } : Jvm.MethodName) ({ cls := "LibraryDesk$Maps", name := "use", desc := "(I)V" } : Jvm.MethodName)) ∈ lw_all := lw_g (lw_at lw_m9 8 rfl) rfl
theorem q2453 : (Jvm.Cond.instanceMethod ({ cls := "LibraryDesk$TreeThing", name := "checkRoom", desc := "(I)V" } : Jvm.MethodName)) ∈ lw_all := lw_g (lw_at lw_m9 26 rfl) rfl
theorem q2454 : (Jvm.Cond.selects "LibraryDesk$TreeThing" ({ cls := "LibraryDesk$TreeThing", name := "checkRoom", desc := "(I)V" } : Jvm.MethodName) ({ cls := "LibraryDesk$TreeThing", name := "checkRoom", desc := "(I)V" } : Jvm.MethodName)) ∈ lw_all := lw_g (lw_at lw_m9 27 rfl) rfl
theorem q2455 : (Jvm.Cond.code ({ cls := "LibraryDesk$TreeThing", name := "checkRoom", desc := "(I)V" } : Jvm.MethodName) prog_35_method_17_code (2 : Nat) (Option.none : Option Jvm.ClassFile.FieldType)) ∈ lw_all := lw_g (lw_at lw_m9 28 rfl) rfl
theorem q2456 : (Jvm.Cond.methodLinkNest "LibraryDesk$TreeThing" (74 : Nat) ({ cls := "LibraryDesk", name := "state", desc := "(Z)V" } : Jvm.MethodName) "LibraryDesk") ∈ lw_tbl := lw_at lw_m9 29 rfl
theorem q2457 : (Jvm.Cond.selects "LibraryDesk$TreeThing" ({ cls := "LibraryDesk$Maps", name := "checkRoom", desc := "(I)V" } : Jvm.MethodName) ({ cls := "LibraryDesk$TreeThing", name := "checkRoom", desc := "(I)V" } : Jvm.MethodName)) ∈ lw_all := lw_g (lw_at lw_m9 30 rfl) rfl
theorem q2496 : (Jvm.Cond.instanceMethod ({ cls := "LibraryDesk$TreeThing", name := "add", desc := "(II)V" } : Jvm.MethodName)) ∈ lw_all := lw_g (lw_at lw_m9 69 rfl) rfl
theorem q2497 : (Jvm.Cond.selects "LibraryDesk$TreeThing" ({ cls := "LibraryDesk$TreeThing", name := "add", desc := "(II)V" } : Jvm.MethodName) ({ cls := "LibraryDesk$TreeThing", name := "add", desc := "(II)V" } : Jvm.MethodName)) ∈ lw_all := lw_g (lw_at lw_m9 70 rfl) rfl
theorem q2498 : (Jvm.Cond.code ({ cls := "LibraryDesk$TreeThing", name := "add", desc := "(II)V" } : Jvm.MethodName) prog_35_method_23_code (6 : Nat) (Option.none : Option Jvm.ClassFile.FieldType)) ∈ lw_all := lw_g (lw_at lw_m9 71 rfl) rfl
theorem q2499 : (Jvm.Cond.methodLinkNest "LibraryDesk$TreeThing" (82 : Nat) ({ cls := "LibraryDesk$Slots", name := "take", desc := "(II)I" } : Jvm.MethodName) "LibraryDesk") ∈ lw_tbl := lw_at lw_m9 72 rfl
theorem q2500 : (Jvm.Cond.methodLink "LibraryDesk$TreeThing" (85 : Nat) ({ cls := "LibraryDesk$TreeThing", name := "mendAdded", desc := "(I)V" } : Jvm.MethodName)) ∈ lw_all := lw_g (lw_at lw_m9 73 rfl) rfl
theorem q2501 : (Jvm.Cond.privateMethod ({ cls := "LibraryDesk$TreeThing", name := "mendAdded", desc := "(I)V" } : Jvm.MethodName)) ∈ lw_tbl := lw_at lw_m9 74 rfl
theorem q2502 : (Jvm.Cond.instanceMethod ({ cls := "LibraryDesk$TreeThing", name := "mendAdded", desc := "(I)V" } : Jvm.MethodName)) ∈ lw_all := lw_g (lw_at lw_m9 75 rfl) rfl
theorem q2503 : (Jvm.Cond.code ({ cls := "LibraryDesk$TreeThing", name := "mendAdded", desc := "(I)V" } : Jvm.MethodName) prog_35_method_24_code (7 : Nat) (Option.none : Option Jvm.ClassFile.FieldType)) ∈ lw_all := lw_g (lw_at lw_m9 76 rfl) rfl
theorem q2504 : (Jvm.Cond.methodLink "LibraryDesk$TreeThing" (88 : Nat) ({ cls := "LibraryDesk$TreeThing", name := "turnLeft", desc := "(I)V" } : Jvm.MethodName)) ∈ lw_all := lw_g (lw_at lw_m9 77 rfl) rfl
theorem q2505 : (Jvm.Cond.privateMethod ({ cls := "LibraryDesk$TreeThing", name := "turnLeft", desc := "(I)V" } : Jvm.MethodName)) ∈ lw_tbl := lw_at lw_m9 78 rfl
theorem q2506 : (Jvm.Cond.instanceMethod ({ cls := "LibraryDesk$TreeThing", name := "turnLeft", desc := "(I)V" } : Jvm.MethodName)) ∈ lw_all := lw_g (lw_at lw_m9 79 rfl) rfl
theorem q2507 : (Jvm.Cond.code ({ cls := "LibraryDesk$TreeThing", name := "turnLeft", desc := "(I)V" } : Jvm.MethodName) prog_35_method_20_code (3 : Nat) (Option.none : Option Jvm.ClassFile.FieldType)) ∈ lw_all := lw_g (lw_at lw_m9 80 rfl) rfl
theorem q2508 : (Jvm.Cond.methodLink "LibraryDesk$TreeThing" (78 : Nat) ({ cls := "LibraryDesk$TreeThing", name := "hang", desc := "(II)V" } : Jvm.MethodName)) ∈ lw_all := lw_g (lw_at lw_m9 81 rfl) rfl
theorem q2509 : (Jvm.Cond.privateMethod ({ cls := "LibraryDesk$TreeThing", name := "hang", desc := "(II)V" } : Jvm.MethodName)) ∈ lw_tbl := lw_at lw_m9 82 rfl
theorem q2510 : (Jvm.Cond.instanceMethod ({ cls := "LibraryDesk$TreeThing", name := "hang", desc := "(II)V" } : Jvm.MethodName)) ∈ lw_all := lw_g (lw_at lw_m9 83 rfl) rfl
theorem q2511 : (Jvm.Cond.code ({ cls := "LibraryDesk$TreeThing", name := "hang", desc := "(II)V" } : Jvm.MethodName) prog_35_method_22_code (4 : Nat) (Option.none : Option Jvm.ClassFile.FieldType)) ∈ lw_all := lw_g (lw_at lw_m9 84 rfl) rfl
theorem q2512 : (Jvm.Cond.methodLink "LibraryDesk$TreeThing" (91 : Nat) ({ cls := "LibraryDesk$TreeThing", name := "turnRight", desc := "(I)V" } : Jvm.MethodName)) ∈ lw_all := lw_g (lw_at lw_m9 85 rfl) rfl
theorem q2513 : (Jvm.Cond.privateMethod ({ cls := "LibraryDesk$TreeThing", name := "turnRight", desc := "(I)V" } : Jvm.MethodName)) ∈ lw_tbl := lw_at lw_m9 86 rfl
theorem q2514 : (Jvm.Cond.instanceMethod ({ cls := "LibraryDesk$TreeThing", name := "turnRight", desc := "(I)V" } : Jvm.MethodName)) ∈ lw_all := lw_g (lw_at lw_m9 87 rfl) rfl
theorem q2515 : (Jvm.Cond.code ({ cls := "LibraryDesk$TreeThing", name := "turnRight", desc := "(I)V" } : Jvm.MethodName) prog_35_method_21_code (3 : Nat) (Option.none : Option Jvm.ClassFile.FieldType)) ∈ lw_all := lw_g (lw_at lw_m9 88 rfl) rfl
theorem q2516 : (Jvm.Cond.selects "LibraryDesk$TreeThing" ({ cls := "LibraryDesk$Maps", name := "add", desc := "(II)V" } : Jvm.MethodName) ({ cls := "LibraryDesk$TreeThing", name := "add", desc := "(II)V" } : Jvm.MethodName)) ∈ lw_all := lw_g (lw_at lw_m9 89 rfl) rfl
theorem q2523 : (Jvm.Cond.selects "LibraryDesk$TreeThing" ({ cls := "LibraryDesk$Maps", name := "get", desc := "(I)J" } : Jvm.MethodName) ({ cls := "LibraryDesk$Maps", name := "get", desc := "(I)J" } : Jvm.MethodName)) ∈ lw_all := lw_g (lw_at lw_m9 96 rfl) rfl
theorem q2531 : (Jvm.Cond.selects "LibraryDesk$TreeThing" ({ cls := "LibraryDesk$Maps", name := "drop", desc := "(I)J" } : Jvm.MethodName) ({ cls := "LibraryDesk$Maps", name := "drop", desc := "(I)J" } : Jvm.MethodName)) ∈ lw_all := lw_g (lw_at lw_m9 104 rfl) rfl
theorem q2545 : (Jvm.Cond.instanceMethod ({ cls := "LibraryDesk$TreeThing", name := "remove", desc := "(I)V" } : Jvm.MethodName)) ∈ lw_all := lw_g (lw_at lw_m9 118 rfl) rfl
theorem q2546 : (Jvm.Cond.selects "LibraryDesk$TreeThing" ({ cls := "LibraryDesk$TreeThing", name := "remove", desc := "(I)V" } : Jvm.MethodName) ({ cls := "LibraryDesk$TreeThing", name := "remove", desc := "(I)V" } : Jvm.MethodName)) ∈ lw_all := lw_g (lw_at lw_m9 119 rfl) rfl
theorem q2547 : (Jvm.Cond.code ({ cls := "LibraryDesk$TreeThing", name := "remove", desc := "(I)V" } : Jvm.MethodName) prog_35_method_25_code (5 : Nat) (Option.none : Option Jvm.ClassFile.FieldType)) ∈ lw_all := lw_g (lw_at lw_m9 120 rfl) rfl
theorem q2548 : (Jvm.Cond.methodLink "LibraryDesk$TreeThing" (61 : Nat) ({ cls := "LibraryDesk$TreeThing", name := "least", desc := "(I)I" } : Jvm.MethodName)) ∈ lw_all := lw_g (lw_at lw_m9 121 rfl) rfl
theorem q2549 : (Jvm.Cond.privateMethod ({ cls := "LibraryDesk$TreeThing", name := "least", desc := "(I)I" } : Jvm.MethodName)) ∈ lw_tbl := lw_at lw_m9 122 rfl
theorem q2550 : (Jvm.Cond.instanceMethod ({ cls := "LibraryDesk$TreeThing", name := "least", desc := "(I)I" } : Jvm.MethodName)) ∈ lw_all := lw_g (lw_at lw_m9 123 rfl) rfl
theorem q2551 : (Jvm.Cond.code ({ cls := "LibraryDesk$TreeThing", name := "least", desc := "(I)I" } : Jvm.MethodName) prog_35_method_8_code (3 : Nat) (Option.some Jvm.ClassFile.FieldType.int)) ∈ lw_all := lw_g (lw_at lw_m9 124 rfl) rfl
theorem q2552 : (Jvm.Cond.methodLink "LibraryDesk$TreeThing" (94 : Nat) ({ cls := "LibraryDesk$TreeThing", name := "mendRemoved", desc := "(I)V" } : Jvm.MethodName)) ∈ lw_all := lw_g (lw_at lw_m9 125 rfl) rfl
theorem q2553 : (Jvm.Cond.privateMethod ({ cls := "LibraryDesk$TreeThing", name := "mendRemoved", desc := "(I)V" } : Jvm.MethodName)) ∈ lw_tbl := lw_at lw_m9 126 rfl
theorem q2554 : (Jvm.Cond.instanceMethod ({ cls := "LibraryDesk$TreeThing", name := "mendRemoved", desc := "(I)V" } : Jvm.MethodName)) ∈ lw_all := lw_g (lw_at lw_m9 127 rfl) rfl
theorem q2555 : (Jvm.Cond.code ({ cls := "LibraryDesk$TreeThing", name := "mendRemoved", desc := "(I)V" } : Jvm.MethodName) prog_35_method_26_code (6 : Nat) (Option.none : Option Jvm.ClassFile.FieldType)) ∈ lw_all := lw_g (lw_at lw_m9 128 rfl) rfl
theorem q2556 : (Jvm.Cond.methodLink "LibraryDesk$TreeThing" (100 : Nat) ({ cls := "LibraryDesk$TreeThing", name := "mendFa\x72", desc := "(IIZ)I" } : Jvm.MethodName)) ∈ lw_all := lw_g (lw_at lw_m9 129 rfl) rfl
theorem q2557 : (Jvm.Cond.privateMethod ({ cls := "LibraryDesk$TreeThing", name := "mendFa\x72", desc := "(IIZ)I" } : Jvm.MethodName)) ∈ lw_tbl := lw_at lw_m9 130 rfl
theorem q2558 : (Jvm.Cond.instanceMethod ({ cls := "LibraryDesk$TreeThing", name := "mendFa\x72", desc := "(IIZ)I" } : Jvm.MethodName)) ∈ lw_all := lw_g (lw_at lw_m9 131 rfl) rfl
theorem q2559 : (Jvm.Cond.code ({ cls := "LibraryDesk$TreeThing", name := "mendFa\x72", desc := "(IIZ)I" } : Jvm.MethodName) prog_35_method_27_code (4 : Nat) (Option.some Jvm.ClassFile.FieldType.int)) ∈ lw_all := lw_g (lw_at lw_m9 132 rfl) rfl
theorem q2560 : (Jvm.Cond.methodLinkNest "LibraryDesk$TreeThing" (97 : Nat) ({ cls := "LibraryDesk$Slots", name := "give", desc := "(I)V" } : Jvm.MethodName) "LibraryDesk") ∈ lw_tbl := lw_at lw_m9 133 rfl
theorem q2561 : (Jvm.Cond.selects "LibraryDesk$TreeThing" ({ cls := "LibraryDesk$Maps", name := "remove", desc := "(I)V" } : Jvm.MethodName) ({ cls := "LibraryDesk$TreeThing", name := "remove", desc := "(I)V" } : Jvm.MethodName)) ∈ lw_all := lw_g (lw_at lw_m9 134 rfl) rfl
theorem q2584 : (Jvm.Cond.instanceMethod ({ cls := "LibraryDesk$TreeThing", name := "upTo", desc := "(IZ)I" } : Jvm.MethodName)) ∈ lw_all := lw_g (lw_at lw_m9 157 rfl) rfl
theorem q2585 : (Jvm.Cond.selects "LibraryDesk$TreeThing" ({ cls := "LibraryDesk$TreeThing", name := "upTo", desc := "(IZ)I" } : Jvm.MethodName) ({ cls := "LibraryDesk$TreeThing", name := "upTo", desc := "(IZ)I" } : Jvm.MethodName)) ∈ lw_all := lw_g (lw_at lw_m9 158 rfl) rfl
theorem q2586 : (Jvm.Cond.code ({ cls := "LibraryDesk$TreeThing", name := "upTo", desc := "(IZ)I" } : Jvm.MethodName) prog_35_method_19_code (6 : Nat) (Option.some Jvm.ClassFile.FieldType.int)) ∈ lw_all := lw_g (lw_at lw_m9 159 rfl) rfl
theorem q2588 : (Jvm.Cond.instanceMethod ({ cls := "LibraryDesk$TreeThing", name := "last", desc := "()I" } : Jvm.MethodName)) ∈ lw_all := lw_g (lw_at lw_m9 161 rfl) rfl
theorem q2589 : (Jvm.Cond.selects "LibraryDesk$TreeThing" ({ cls := "LibraryDesk$TreeThing", name := "last", desc := "()I" } : Jvm.MethodName) ({ cls := "LibraryDesk$TreeThing", name := "last", desc := "()I" } : Jvm.MethodName)) ∈ lw_all := lw_g (lw_at lw_m9 162 rfl) rfl
theorem q2590 : (Jvm.Cond.code ({ cls := "LibraryDesk$TreeThing", name := "last", desc := "()I" } : Jvm.MethodName) prog_35_method_11_code (1 : Nat) (Option.some Jvm.ClassFile.FieldType.int)) ∈ lw_all := lw_g (lw_at lw_m9 163 rfl) rfl
theorem q2591 : (Jvm.Cond.methodLink "LibraryDesk$TreeThing" (68 : Nat) ({ cls := "LibraryDesk$TreeThing", name := "greatest", desc := "(I)I" } : Jvm.MethodName)) ∈ lw_all := lw_g (lw_at lw_m9 164 rfl) rfl
theorem q2592 : (Jvm.Cond.privateMethod ({ cls := "LibraryDesk$TreeThing", name := "greatest", desc := "(I)I" } : Jvm.MethodName)) ∈ lw_tbl := lw_at lw_m9 165 rfl
theorem q2593 : (Jvm.Cond.instanceMethod ({ cls := "LibraryDesk$TreeThing", name := "greatest", desc := "(I)I" } : Jvm.MethodName)) ∈ lw_all := lw_g (lw_at lw_m9 166 rfl) rfl
theorem q2594 : (Jvm.Cond.code ({ cls := "LibraryDesk$TreeThing", name := "greatest", desc := "(I)I" } : Jvm.MethodName) prog_35_method_9_code (3 : Nat) (Option.some Jvm.ClassFile.FieldType.int)) ∈ lw_all := lw_g (lw_at lw_m9 167 rfl) rfl
theorem q2595 : (Jvm.Cond.methodLink "LibraryDesk$TreeThing" (65 : Nat) ({ cls := "LibraryDesk$TreeThing", name := "told", desc := "(I)I" } : Jvm.MethodName)) ∈ lw_all := lw_g (lw_at lw_m9 168 rfl) rfl
theorem q2596 : (Jvm.Cond.static ({ cls := "LibraryDesk$TreeThing", name := "told", desc := "(I)I" } : Jvm.MethodName)) ∈ lw_all := lw_g (lw_at lw_m9 169 rfl) rfl
theorem q2597 : (Jvm.Cond.code ({ cls := "LibraryDesk$TreeThing", name := "told", desc := "(I)I" } : Jvm.MethodName) prog_35_method_6_code (1 : Nat) (Option.some Jvm.ClassFile.FieldType.int)) ∈ lw_all := lw_g (lw_at lw_m9 170 rfl) rfl
theorem q2603 : (Jvm.Cond.instanceMethod ({ cls := "LibraryDesk$TreeThing", name := "from", desc := "(IZ)I" } : Jvm.MethodName)) ∈ lw_all := lw_g (lw_at lw_m9 176 rfl) rfl
theorem q2604 : (Jvm.Cond.selects "LibraryDesk$TreeThing" ({ cls := "LibraryDesk$TreeThing", name := "from", desc := "(IZ)I" } : Jvm.MethodName) ({ cls := "LibraryDesk$TreeThing", name := "from", desc := "(IZ)I" } : Jvm.MethodName)) ∈ lw_all := lw_g (lw_at lw_m9 177 rfl) rfl
theorem q2605 : (Jvm.Cond.code ({ cls := "LibraryDesk$TreeThing", name := "from", desc := "(IZ)I" } : Jvm.MethodName) prog_35_method_18_code (6 : Nat) (Option.some Jvm.ClassFile.FieldType.int)) ∈ lw_all := lw_g (lw_at lw_m9 178 rfl) rfl
theorem q2607 : (Jvm.Cond.instanceMethod ({ cls := "LibraryDesk$TreeThing", name := "first", desc := "()I" } : Jvm.MethodName)) ∈ lw_all := lw_g (lw_at lw_m9 180 rfl) rfl
theorem q2608 : (Jvm.Cond.selects "LibraryDesk$TreeThing" ({ cls := "LibraryDesk$TreeThing", name := "first", desc := "()I" } : Jvm.MethodName) ({ cls := "LibraryDesk$TreeThing", name := "first", desc := "()I" } : Jvm.MethodName)) ∈ lw_all := lw_g (lw_at lw_m9 181 rfl) rfl
theorem q2609 : (Jvm.Cond.code ({ cls := "LibraryDesk$TreeThing", name := "first", desc := "()I" } : Jvm.MethodName) prog_35_method_10_code (1 : Nat) (Option.some Jvm.ClassFile.FieldType.int)) ∈ lw_all := lw_g (lw_at lw_m9 182 rfl) rfl
theorem q2615 : (Jvm.Cond.instanceMethod ({ cls := "LibraryDesk$TreeThing", name := "before", desc := "(I)I" } : Jvm.MethodName)) ∈ lw_all := lw_g (lw_at lw_m9 188 rfl) rfl
theorem q2616 : (Jvm.Cond.selects "LibraryDesk$TreeThing" ({ cls := "LibraryDesk$TreeThing", name := "before", desc := "(I)I" } : Jvm.MethodName) ({ cls := "LibraryDesk$TreeThing", name := "before", desc := "(I)I" } : Jvm.MethodName)) ∈ lw_all := lw_g (lw_at lw_m9 189 rfl) rfl
theorem q2617 : (Jvm.Cond.code ({ cls := "LibraryDesk$TreeThing", name := "before", desc := "(I)I" } : Jvm.MethodName) prog_35_method_13_code (3 : Nat) (Option.some Jvm.ClassFile.FieldType.int)) ∈ lw_all := lw_g (lw_at lw_m9 190 rfl) rfl
theorem q2619 : (Jvm.Cond.instanceMethod ({ cls := "LibraryDesk$TreeThing", name := "next", desc := "(I)I" } : Jvm.MethodName)) ∈ lw_all := lw_g (lw_at lw_m9 192 rfl) rfl
theorem q2620 : (Jvm.Cond.selects "LibraryDesk$TreeThing" ({ cls := "LibraryDesk$TreeThing", name := "next", desc := "(I)I" } : Jvm.MethodName) ({ cls := "LibraryDesk$TreeThing", name := "next", desc := "(I)I" } : Jvm.MethodName)) ∈ lw_all := lw_g (lw_at lw_m9 193 rfl) rfl
theorem q2621 : (Jvm.Cond.code ({ cls := "LibraryDesk$TreeThing", name := "next", desc := "(I)I" } : Jvm.MethodName) prog_35_method_12_code (3 : Nat) (Option.some Jvm.ClassFile.FieldType.int)) ∈ lw_all := lw_g (lw_at lw_m9 194 rfl) rfl
theorem q2622 : (Jvm.Cond.selects "LibraryDesk$TreeThing" ({ cls := "LibraryDesk$Maps", name := "size", desc := "()I" } : Jvm.MethodName) ({ cls := "LibraryDesk$TreeThing", name := "size", desc := "()I" } : Jvm.MethodName)) ∈ lw_all := lw_g (lw_at lw_m9 195 rfl) rfl
theorem q2623 : (Jvm.Cond.instanceMethod ({ cls := "LibraryDesk$TreeThing", name := "size", desc := "()I" } : Jvm.MethodName)) ∈ lw_all := lw_g (lw_at lw_m9 196 rfl) rfl
theorem q2624 : (Jvm.Cond.code ({ cls := "LibraryDesk$TreeThing", name := "size", desc := "()I" } : Jvm.MethodName) prog_35_method_4_code (1 : Nat) (Option.some Jvm.ClassFile.FieldType.int)) ∈ lw_all := lw_g (lw_at lw_m9 197 rfl) rfl
theorem q2637 : (Jvm.Cond.selects "LibraryDesk$TreeThing" ({ cls := "LibraryDesk$Maps", name := "clea\x72", desc := "()V" } : Jvm.MethodName) ({ cls := "LibraryDesk$TreeThing", name := "clea\x72", desc := "()V" } : Jvm.MethodName)) ∈ lw_all := lw_g (lw_at lw_m9 210 rfl) rfl
theorem q2638 : (Jvm.Cond.instanceMethod ({ cls := "LibraryDesk$TreeThing", name := "clea\x72", desc := "()V" } : Jvm.MethodName)) ∈ lw_all := lw_g (lw_at lw_m9 211 rfl) rfl
theorem q2639 : (Jvm.Cond.code ({ cls := "LibraryDesk$TreeThing", name := "clea\x72", desc := "()V" } : Jvm.MethodName) prog_35_method_28_code (1 : Nat) (Option.none : Option Jvm.ClassFile.FieldType)) ∈ lw_all := lw_g (lw_at lw_m9 212 rfl) rfl
theorem q2646 : (Jvm.Cond.selects "LibraryDesk$TreeThing" ({ cls := "LibraryDesk$Maps", name := "more", desc := "(II)J" } : Jvm.MethodName) ({ cls := "LibraryDesk$Maps", name := "more", desc := "(II)J" } : Jvm.MethodName)) ∈ lw_all := lw_g (lw_at lw_m9 219 rfl) rfl
theorem q2654 : (Jvm.Cond.selects "LibraryDesk$TreeThing" ({ cls := "LibraryDesk$Maps", name := "countValue", desc := "(I)I" } : Jvm.MethodName) ({ cls := "LibraryDesk$Maps", name := "countValue", desc := "(I)I" } : Jvm.MethodName)) ∈ lw_all := lw_g (lw_at lw_m9 227 rfl) rfl
theorem q2670 : (Jvm.Cond.selects "LibraryDesk$TreeThing" ({ cls := "LibraryDesk$Maps", name := "first", desc := "()I" } : Jvm.MethodName) ({ cls := "LibraryDesk$TreeThing", name := "first", desc := "()I" } : Jvm.MethodName)) ∈ lw_all := lw_g (lw_at lw_m10 3 rfl) rfl
theorem q2681 : (Jvm.Cond.selects "LibraryDesk$TreeThing" ({ cls := "LibraryDesk$Maps", name := "next", desc := "(I)I" } : Jvm.MethodName) ({ cls := "LibraryDesk$TreeThing", name := "next", desc := "(I)I" } : Jvm.MethodName)) ∈ lw_all := lw_g (lw_at lw_m10 14 rfl) rfl
theorem q2688 : (Jvm.Cond.selects "LibraryDesk$TreeThing" ({ cls := "LibraryDesk$Maps", name := "end", desc := "(ZZ)J" } : Jvm.MethodName) ({ cls := "LibraryDesk$Maps", name := "end", desc := "(ZZ)J" } : Jvm.MethodName)) ∈ lw_all := lw_g (lw_at lw_m10 21 rfl) rfl
theorem q2704 : (Jvm.Cond.selects "LibraryDesk$TreeThing" ({ cls := "LibraryDesk$Maps", name := "last", desc := "()I" } : Jvm.MethodName) ({ cls := "LibraryDesk$TreeThing", name := "last", desc := "()I" } : Jvm.MethodName)) ∈ lw_all := lw_g (lw_at lw_m10 37 rfl) rfl
theorem q2718 : (Jvm.Cond.selects "LibraryDesk$TreeThing" ({ cls := "LibraryDesk$Maps", name := "key", desc := "(I)I" } : Jvm.MethodName) ({ cls := "LibraryDesk$TreeThing", name := "key", desc := "(I)I" } : Jvm.MethodName)) ∈ lw_all := lw_g (lw_at lw_m10 51 rfl) rfl
theorem q2725 : (Jvm.Cond.selects "LibraryDesk$TreeThing" ({ cls := "LibraryDesk$Maps", name := "hash", desc := "()I" } : Jvm.MethodName) ({ cls := "LibraryDesk$Maps", name := "hash", desc := "()I" } : Jvm.MethodName)) ∈ lw_all := lw_g (lw_at lw_m10 58 rfl) rfl
theorem q2733 : (Jvm.Cond.selects "LibraryDesk$TreeThing" ({ cls := "LibraryDesk$Maps", name := "same", desc := "(LLibraryDesk$Maps;)I" } : Jvm.MethodName) ({ cls := "LibraryDesk$Maps", name := "same", desc := "(LLibraryDesk$Maps;)I" } : Jvm.MethodName)) ∈ lw_all := lw_g (lw_at lw_m10 66 rfl) rfl
theorem q2852 : (Jvm.Cond.selects "LibraryDesk$TreeThing" ({ cls := "LibraryDesk$Maps", name := "changes", desc := "()I" } : Jvm.MethodName) ({ cls := "LibraryDesk$TreeThing", name := "changes", desc := "()I" } : Jvm.MethodName)) ∈ lw_all := lw_g (lw_at lw_m10 185 rfl) rfl
theorem q2853 : (Jvm.Cond.instanceMethod ({ cls := "LibraryDesk$TreeThing", name := "changes", desc := "()I" } : Jvm.MethodName)) ∈ lw_all := lw_g (lw_at lw_m10 186 rfl) rfl
theorem q2854 : (Jvm.Cond.code ({ cls := "LibraryDesk$TreeThing", name := "changes", desc := "()I" } : Jvm.MethodName) prog_35_method_5_code (1 : Nat) (Option.some Jvm.ClassFile.FieldType.int)) ∈ lw_all := lw_g (lw_at lw_m10 187 rfl) rfl
theorem q6094 : (Jvm.Cond.selects "LibraryDesk$TreeThing" ({ cls := "LibraryDesk$Thing", name := "kind", desc := "()I" } : Jvm.MethodName) ({ cls := "LibraryDesk$Thing", name := "kind", desc := "()I" } : Jvm.MethodName)) ∈ lw_all := lw_g (lw_at lw_m24 67 rfl) rfl
theorem q6097 : (Jvm.Cond.selects "LibraryDesk$TreeThing" ({ cls := "LibraryDesk$TreeThing", name := "size", desc := "()I" } : Jvm.MethodName) ({ cls := "LibraryDesk$TreeThing", name := "size", desc := "()I" } : Jvm.MethodName)) ∈ lw_all := lw_g (lw_at lw_m24 70 rfl) rfl
theorem q6106 : (Jvm.Cond.castable "LibraryDesk$TreeThing" "LibraryDesk$Maps") ∈ lw_tbl := lw_at lw_m24 79 rfl
theorem q6132 : (Jvm.Cond.castable "LibraryDesk$TreeThing" "java/lang/Object") ∈ lw_tbl := lw_at lw_m24 105 rfl
theorem q6157 : (Jvm.Cond.castable "LibraryDesk$TreeThing" "LibraryDesk$Thing") ∈ lw_tbl := lw_at lw_m24 130 rfl
theorem in_X24 : ∀ w ∈ wsX240, w ∈ lw_all := lw_in wsX240 [1580, 1581, 1564, 1566, 1568, 1570, 1572, 1574, 1576, 1578] (by decide +kernel) (by decide +kernel)

/-! LibraryDesk$HeapThing -/
set_option maxRecDepth 100000
def RX25 : String := "LibraryDesk$HeapThing"
def TX25 : u_T := fun k => match k with
  | 0 => ("LibraryDesk$Thing", "kind", "I", true)
  | 1 => ("LibraryDesk$Thing", "used", "Z", false)
  | 2 => ("LibraryDesk$HeapThing", "value", "[I", true)
  | 3 => ("LibraryDesk$HeapThing", "came", "[I", true)
  | 4 => ("LibraryDesk$HeapThing", "size", "I", false)
  | 5 => ("LibraryDesk$HeapThing", "capacity", "I", false)
  | 6 => ("LibraryDesk$HeapThing", "orde\x72", "I", false)
  | _ => ("LibraryDesk$HeapThing", "clock", "I", false)
def tyX25 : Nat → FieldType := fun k => match k with
  | 0 => .int
  | 1 => .boolean
  | 2 => .array .int
  | 3 => .array .int
  | 4 => .int
  | 5 => .int
  | 6 => .int
  | _ => .int
abbrev wsX250 : List Cond := u_ws RX25 TX25 8
theorem nmX25 : ∀ a, a < 8 → ∀ b, b < 8 → a ≠ b → (TX25 a).2.1 ≠ (TX25 b).2.1 := by decide +kernel
theorem tyX25_ok : ∀ k, k < 8 → parseFieldDescriptor (TX25 k).2.2.1 = some (tyX25 k) := by decide +kernel
abbrev cX25_init : ByteArray := prog_11_method_1_code
def yX25_init : MethodName := ⟨RX25, "<init>", "()V"⟩
def dkwX25_init_0 : List UInt8 := [42, 8, 183, 0, 3, 42, 17, 7, 208, 188, 10, 181, 0, 9, 42, 17, 7, 208, 188, 10, 181, 0, 15, 177]
abbrev dktX25_init_0 : List UInt8 := dkwX25_init_0 ++ []
theorem dksX25_init_0 : cX25_init.data.toList.drop 0 = dktX25_init_0 := by decide +kernel
theorem dX25_init_0 : decode cX25_init 0 = .ok (.aload_n 0, 1) := dk_42 (dk_at dksX25_init_0 0 rfl rfl)
theorem dX25_init_1 : decode cX25_init 1 = .ok (.iconst 5, 1) := dk_8 (dk_at dksX25_init_0 1 rfl rfl)
theorem dX25_init_2 : decode cX25_init 2 = .ok (.invokespecial 3, 3) := dk_183 0 3 (dk_at dksX25_init_0 2 rfl rfl)
theorem dX25_init_5 : decode cX25_init 5 = .ok (.aload_n 0, 1) := dk_42 (dk_at dksX25_init_0 5 rfl rfl)
theorem dX25_init_6 : decode cX25_init 6 = .ok (.sipush 2000, 3) := dk_17 7 208 (dk_at dksX25_init_0 6 rfl rfl)
theorem dX25_init_9 : decode cX25_init 9 = .ok (.newarray .int, 2) := dk_188_10 (dk_at dksX25_init_0 9 rfl rfl)
theorem dX25_init_11 : decode cX25_init 11 = .ok (.putfield 9, 3) := dk_181 0 9 (dk_at dksX25_init_0 11 rfl rfl)
theorem dX25_init_14 : decode cX25_init 14 = .ok (.aload_n 0, 1) := dk_42 (dk_at dksX25_init_0 14 rfl rfl)
theorem dX25_init_15 : decode cX25_init 15 = .ok (.sipush 2000, 3) := dk_17 7 208 (dk_at dksX25_init_0 15 rfl rfl)
theorem dX25_init_18 : decode cX25_init 18 = .ok (.newarray .int, 2) := dk_188_10 (dk_at dksX25_init_0 18 rfl rfl)
theorem dX25_init_20 : decode cX25_init 20 = .ok (.putfield 15, 3) := dk_181 0 15 (dk_at dksX25_init_0 20 rfl rfl)
theorem dX25_init_23 : decode cX25_init 23 = .ok (.return_, 1) := dk_177 (dk_at dksX25_init_0 23 rfl rfl)
abbrev cX25_begin : ByteArray := prog_11_method_2_code
def yX25_begin : MethodName := ⟨RX25, "begin", "(II)V"⟩
def dkwX25_begin_0 : List UInt8 := [42, 3, 181, 0, 18, 42, 27, 181, 0, 22, 42, 28, 181, 0, 25, 42, 3, 181, 0, 28, 177]
abbrev dktX25_begin_0 : List UInt8 := dkwX25_begin_0 ++ []
theorem dksX25_begin_0 : cX25_begin.data.toList.drop 0 = dktX25_begin_0 := by decide +kernel
theorem dX25_begin_0 : decode cX25_begin 0 = .ok (.aload_n 0, 1) := dk_42 (dk_at dksX25_begin_0 0 rfl rfl)
theorem dX25_begin_1 : decode cX25_begin 1 = .ok (.iconst 0, 1) := dk_3 (dk_at dksX25_begin_0 1 rfl rfl)
theorem dX25_begin_2 : decode cX25_begin 2 = .ok (.putfield 18, 3) := dk_181 0 18 (dk_at dksX25_begin_0 2 rfl rfl)
theorem dX25_begin_5 : decode cX25_begin 5 = .ok (.aload_n 0, 1) := dk_42 (dk_at dksX25_begin_0 5 rfl rfl)
theorem dX25_begin_6 : decode cX25_begin 6 = .ok (.iload_n 1, 1) := dk_27 (dk_at dksX25_begin_0 6 rfl rfl)
theorem dX25_begin_7 : decode cX25_begin 7 = .ok (.putfield 22, 3) := dk_181 0 22 (dk_at dksX25_begin_0 7 rfl rfl)
theorem dX25_begin_10 : decode cX25_begin 10 = .ok (.aload_n 0, 1) := dk_42 (dk_at dksX25_begin_0 10 rfl rfl)
theorem dX25_begin_11 : decode cX25_begin 11 = .ok (.iload_n 2, 1) := dk_28 (dk_at dksX25_begin_0 11 rfl rfl)
theorem dX25_begin_12 : decode cX25_begin 12 = .ok (.putfield 25, 3) := dk_181 0 25 (dk_at dksX25_begin_0 12 rfl rfl)
theorem dX25_begin_15 : decode cX25_begin 15 = .ok (.aload_n 0, 1) := dk_42 (dk_at dksX25_begin_0 15 rfl rfl)
theorem dX25_begin_16 : decode cX25_begin 16 = .ok (.iconst 0, 1) := dk_3 (dk_at dksX25_begin_0 16 rfl rfl)
theorem dX25_begin_17 : decode cX25_begin 17 = .ok (.putfield 28, 3) := dk_181 0 28 (dk_at dksX25_begin_0 17 rfl rfl)
theorem dX25_begin_20 : decode cX25_begin 20 = .ok (.return_, 1) := dk_177 (dk_at dksX25_begin_0 20 rfl rfl)
abbrev cX25_call : ByteArray := prog_11_method_13_code
def yX25_call : MethodName := ⟨RX25, "call", "(II)J"⟩
def dkwX25_call_5 : List UInt8 := [62, 42, 3, 181, 0, 18, 29, 133, 173]
abbrev dktX25_call_5 : List UInt8 := dkwX25_call_5 ++ []
def dkwX25_call_4 : List UInt8 := [173, 42, 28, 182, 0, 79, 133, 173, 42, 180, 0, 18, 133, 173, 42, 180, 0, 22, 133, 173, 42, 180, 0, 18]
abbrev dktX25_call_4 : List UInt8 := dkwX25_call_4 ++ dktX25_call_5
def dkwX25_call_3 : List UInt8 := [184, 0, 76, 27, 4, 160, 0, 12, 42, 3, 182, 0, 61, 133, 167, 0, 10, 42, 180, 0, 9, 3, 46, 133]
abbrev dktX25_call_3 : List UInt8 := dkwX25_call_3 ++ dktX25_call_4
def dkwX25_call_2 : List UInt8 := [42, 28, 182, 0, 73, 42, 180, 0, 18, 133, 173, 42, 180, 0, 18, 158, 0, 7, 4, 167, 0, 4, 3]
abbrev dktX25_call_2 : List UInt8 := dkwX25_call_2 ++ dktX25_call_3
def dkwX25_call_1 : List UInt8 := [170, 0, 0, 0, 0, 0, 106, 0, 0, 0, 0, 0, 0, 0, 5, 0, 0, 0, 39, 0, 0, 0, 50, 0, 0, 0, 50, 0, 0, 0, 87, 0, 0, 0, 94, 0, 0, 0, 100]
abbrev dktX25_call_1 : List UInt8 := dkwX25_call_1 ++ dktX25_call_2
def dkwX25_call_0 : List UInt8 := [27]
abbrev dktX25_call_0 : List UInt8 := dkwX25_call_0 ++ dktX25_call_1
theorem dksX25_call_0 : cX25_call.data.toList.drop 0 = dktX25_call_0 := by decide +kernel
theorem dksX25_call_1 : cX25_call.data.toList.drop 1 = dktX25_call_1 := dk_seg dksX25_call_0 1 rfl rfl
theorem dksX25_call_2 : cX25_call.data.toList.drop 40 = dktX25_call_2 := dk_seg dksX25_call_1 39 rfl rfl
theorem dksX25_call_3 : cX25_call.data.toList.drop 63 = dktX25_call_3 := dk_seg dksX25_call_2 23 rfl rfl
theorem dksX25_call_4 : cX25_call.data.toList.drop 87 = dktX25_call_4 := dk_seg dksX25_call_3 24 rfl rfl
theorem dksX25_call_5 : cX25_call.data.toList.drop 111 = dktX25_call_5 := dk_seg dksX25_call_4 24 rfl rfl
theorem dX25_call_0 : decode cX25_call 0 = .ok (.iload_n 1, 1) := dk_27 (dk_at dksX25_call_0 0 rfl rfl)
theorem dX25_call_1 : decode cX25_call 1 = .ok (.tableswitch 106 0 5 #[39, 50, 50, 87, 94, 100], 39) := by decide +kernel
theorem dX25_call_40 : decode cX25_call 40 = .ok (.aload_n 0, 1) := dk_42 (dk_at dksX25_call_2 0 rfl rfl)
theorem dX25_call_41 : decode cX25_call 41 = .ok (.iload_n 2, 1) := dk_28 (dk_at dksX25_call_2 1 rfl rfl)
theorem dX25_call_42 : decode cX25_call 42 = .ok (.invokevirtual 73, 3) := dk_182 0 73 (dk_at dksX25_call_2 2 rfl rfl)
theorem dX25_call_45 : decode cX25_call 45 = .ok (.aload_n 0, 1) := dk_42 (dk_at dksX25_call_2 5 rfl rfl)
theorem dX25_call_46 : decode cX25_call 46 = .ok (.getfield 18, 3) := dk_180 0 18 (dk_at dksX25_call_2 6 rfl rfl)
theorem dX25_call_49 : decode cX25_call 49 = .ok (.i2l, 1) := dk_133 (dk_at dksX25_call_2 9 rfl rfl)
theorem dX25_call_50 : decode cX25_call 50 = .ok (.lreturn, 1) := dk_173 (dk_at dksX25_call_2 10 rfl rfl)
theorem dX25_call_51 : decode cX25_call 51 = .ok (.aload_n 0, 1) := dk_42 (dk_at dksX25_call_2 11 rfl rfl)
theorem dX25_call_52 : decode cX25_call 52 = .ok (.getfield 18, 3) := dk_180 0 18 (dk_at dksX25_call_2 12 rfl rfl)
theorem dX25_call_55 : decode cX25_call 55 = .ok (.ifCond .le 7, 3) := dk_158 0 7 (dk_at dksX25_call_2 15 rfl rfl)
theorem dX25_call_58 : decode cX25_call 58 = .ok (.iconst 1, 1) := dk_4 (dk_at dksX25_call_2 18 rfl rfl)
theorem dX25_call_59 : decode cX25_call 59 = .ok (.goto 4, 3) := dk_167 0 4 (dk_at dksX25_call_2 19 rfl rfl)
theorem dX25_call_62 : decode cX25_call 62 = .ok (.iconst 0, 1) := dk_3 (dk_at dksX25_call_2 22 rfl rfl)
theorem dX25_call_63 : decode cX25_call 63 = .ok (.invokestatic 76, 3) := dk_184 0 76 (dk_at dksX25_call_3 0 rfl rfl)
theorem dX25_call_66 : decode cX25_call 66 = .ok (.iload_n 1, 1) := dk_27 (dk_at dksX25_call_3 3 rfl rfl)
theorem dX25_call_67 : decode cX25_call 67 = .ok (.iconst 1, 1) := dk_4 (dk_at dksX25_call_3 4 rfl rfl)
theorem dX25_call_68 : decode cX25_call 68 = .ok (.if_icmp .ne 12, 3) := dk_160 0 12 (dk_at dksX25_call_3 5 rfl rfl)
theorem dX25_call_71 : decode cX25_call 71 = .ok (.aload_n 0, 1) := dk_42 (dk_at dksX25_call_3 8 rfl rfl)
theorem dX25_call_72 : decode cX25_call 72 = .ok (.iconst 0, 1) := dk_3 (dk_at dksX25_call_3 9 rfl rfl)
theorem dX25_call_73 : decode cX25_call 73 = .ok (.invokevirtual 61, 3) := dk_182 0 61 (dk_at dksX25_call_3 10 rfl rfl)
theorem dX25_call_76 : decode cX25_call 76 = .ok (.i2l, 1) := dk_133 (dk_at dksX25_call_3 13 rfl rfl)
theorem dX25_call_77 : decode cX25_call 77 = .ok (.goto 10, 3) := dk_167 0 10 (dk_at dksX25_call_3 14 rfl rfl)
theorem dX25_call_80 : decode cX25_call 80 = .ok (.aload_n 0, 1) := dk_42 (dk_at dksX25_call_3 17 rfl rfl)
theorem dX25_call_81 : decode cX25_call 81 = .ok (.getfield 9, 3) := dk_180 0 9 (dk_at dksX25_call_3 18 rfl rfl)
theorem dX25_call_84 : decode cX25_call 84 = .ok (.iconst 0, 1) := dk_3 (dk_at dksX25_call_3 21 rfl rfl)
theorem dX25_call_85 : decode cX25_call 85 = .ok (.iaload, 1) := dk_46 (dk_at dksX25_call_3 22 rfl rfl)
theorem dX25_call_86 : decode cX25_call 86 = .ok (.i2l, 1) := dk_133 (dk_at dksX25_call_3 23 rfl rfl)
theorem dX25_call_87 : decode cX25_call 87 = .ok (.lreturn, 1) := dk_173 (dk_at dksX25_call_4 0 rfl rfl)
theorem dX25_call_88 : decode cX25_call 88 = .ok (.aload_n 0, 1) := dk_42 (dk_at dksX25_call_4 1 rfl rfl)
theorem dX25_call_89 : decode cX25_call 89 = .ok (.iload_n 2, 1) := dk_28 (dk_at dksX25_call_4 2 rfl rfl)
theorem dX25_call_90 : decode cX25_call 90 = .ok (.invokevirtual 79, 3) := dk_182 0 79 (dk_at dksX25_call_4 3 rfl rfl)
theorem dX25_call_93 : decode cX25_call 93 = .ok (.i2l, 1) := dk_133 (dk_at dksX25_call_4 6 rfl rfl)
theorem dX25_call_94 : decode cX25_call 94 = .ok (.lreturn, 1) := dk_173 (dk_at dksX25_call_4 7 rfl rfl)
theorem dX25_call_95 : decode cX25_call 95 = .ok (.aload_n 0, 1) := dk_42 (dk_at dksX25_call_4 8 rfl rfl)
theorem dX25_call_96 : decode cX25_call 96 = .ok (.getfield 18, 3) := dk_180 0 18 (dk_at dksX25_call_4 9 rfl rfl)
theorem dX25_call_99 : decode cX25_call 99 = .ok (.i2l, 1) := dk_133 (dk_at dksX25_call_4 12 rfl rfl)
theorem dX25_call_100 : decode cX25_call 100 = .ok (.lreturn, 1) := dk_173 (dk_at dksX25_call_4 13 rfl rfl)
theorem dX25_call_101 : decode cX25_call 101 = .ok (.aload_n 0, 1) := dk_42 (dk_at dksX25_call_4 14 rfl rfl)
theorem dX25_call_102 : decode cX25_call 102 = .ok (.getfield 22, 3) := dk_180 0 22 (dk_at dksX25_call_4 15 rfl rfl)
theorem dX25_call_105 : decode cX25_call 105 = .ok (.i2l, 1) := dk_133 (dk_at dksX25_call_4 18 rfl rfl)
theorem dX25_call_106 : decode cX25_call 106 = .ok (.lreturn, 1) := dk_173 (dk_at dksX25_call_4 19 rfl rfl)
theorem dX25_call_107 : decode cX25_call 107 = .ok (.aload_n 0, 1) := dk_42 (dk_at dksX25_call_4 20 rfl rfl)
theorem dX25_call_108 : decode cX25_call 108 = .ok (.getfield 18, 3) := dk_180 0 18 (dk_at dksX25_call_4 21 rfl rfl)
theorem dX25_call_111 : decode cX25_call 111 = .ok (.istore_n 3, 1) := dk_62 (dk_at dksX25_call_5 0 rfl rfl)
theorem dX25_call_112 : decode cX25_call 112 = .ok (.aload_n 0, 1) := dk_42 (dk_at dksX25_call_5 1 rfl rfl)
theorem dX25_call_113 : decode cX25_call 113 = .ok (.iconst 0, 1) := dk_3 (dk_at dksX25_call_5 2 rfl rfl)
theorem dX25_call_114 : decode cX25_call 114 = .ok (.putfield 18, 3) := dk_181 0 18 (dk_at dksX25_call_5 3 rfl rfl)
theorem dX25_call_117 : decode cX25_call 117 = .ok (.iload_n 3, 1) := dk_29 (dk_at dksX25_call_5 6 rfl rfl)
theorem dX25_call_118 : decode cX25_call 118 = .ok (.i2l, 1) := dk_133 (dk_at dksX25_call_5 7 rfl rfl)
theorem dX25_call_119 : decode cX25_call 119 = .ok (.lreturn, 1) := dk_173 (dk_at dksX25_call_5 8 rfl rfl)
abbrev cX25_offer : ByteArray := prog_11_method_9_code
def yX25_offer : MethodName := ⟨RX25, "offe\x72", "(I)V"⟩
def dkwX25_offer_1 : List UInt8 := [96, 182, 0, 52, 42, 27, 182, 0, 55, 177]
abbrev dktX25_offer_1 : List UInt8 := dkwX25_offer_1 ++ []
def dkwX25_offer_0 : List UInt8 := [42, 180, 0, 18, 17, 7, 208, 162, 0, 7, 4, 167, 0, 4, 3, 184, 0, 48, 42, 42, 180, 0, 18, 4]
abbrev dktX25_offer_0 : List UInt8 := dkwX25_offer_0 ++ dktX25_offer_1
theorem dksX25_offer_0 : cX25_offer.data.toList.drop 0 = dktX25_offer_0 := by decide +kernel
theorem dksX25_offer_1 : cX25_offer.data.toList.drop 24 = dktX25_offer_1 := dk_seg dksX25_offer_0 24 rfl rfl
theorem dX25_offer_0 : decode cX25_offer 0 = .ok (.aload_n 0, 1) := dk_42 (dk_at dksX25_offer_0 0 rfl rfl)
theorem dX25_offer_1 : decode cX25_offer 1 = .ok (.getfield 18, 3) := dk_180 0 18 (dk_at dksX25_offer_0 1 rfl rfl)
theorem dX25_offer_4 : decode cX25_offer 4 = .ok (.sipush 2000, 3) := dk_17 7 208 (dk_at dksX25_offer_0 4 rfl rfl)
theorem dX25_offer_7 : decode cX25_offer 7 = .ok (.if_icmp .ge 7, 3) := dk_162 0 7 (dk_at dksX25_offer_0 7 rfl rfl)
theorem dX25_offer_10 : decode cX25_offer 10 = .ok (.iconst 1, 1) := dk_4 (dk_at dksX25_offer_0 10 rfl rfl)
theorem dX25_offer_11 : decode cX25_offer 11 = .ok (.goto 4, 3) := dk_167 0 4 (dk_at dksX25_offer_0 11 rfl rfl)
theorem dX25_offer_14 : decode cX25_offer 14 = .ok (.iconst 0, 1) := dk_3 (dk_at dksX25_offer_0 14 rfl rfl)
theorem dX25_offer_15 : decode cX25_offer 15 = .ok (.invokestatic 48, 3) := dk_184 0 48 (dk_at dksX25_offer_0 15 rfl rfl)
theorem dX25_offer_18 : decode cX25_offer 18 = .ok (.aload_n 0, 1) := dk_42 (dk_at dksX25_offer_0 18 rfl rfl)
theorem dX25_offer_19 : decode cX25_offer 19 = .ok (.aload_n 0, 1) := dk_42 (dk_at dksX25_offer_0 19 rfl rfl)
theorem dX25_offer_20 : decode cX25_offer 20 = .ok (.getfield 18, 3) := dk_180 0 18 (dk_at dksX25_offer_0 20 rfl rfl)
theorem dX25_offer_23 : decode cX25_offer 23 = .ok (.iconst 1, 1) := dk_4 (dk_at dksX25_offer_0 23 rfl rfl)
theorem dX25_offer_24 : decode cX25_offer 24 = .ok (.iadd, 1) := dk_96 (dk_at dksX25_offer_1 0 rfl rfl)
theorem dX25_offer_25 : decode cX25_offer 25 = .ok (.invokevirtual 52, 3) := dk_182 0 52 (dk_at dksX25_offer_1 1 rfl rfl)
theorem dX25_offer_28 : decode cX25_offer 28 = .ok (.aload_n 0, 1) := dk_42 (dk_at dksX25_offer_1 4 rfl rfl)
theorem dX25_offer_29 : decode cX25_offer 29 = .ok (.iload_n 1, 1) := dk_27 (dk_at dksX25_offer_1 5 rfl rfl)
theorem dX25_offer_30 : decode cX25_offer 30 = .ok (.invokevirtual 55, 3) := dk_182 0 55 (dk_at dksX25_offer_1 6 rfl rfl)
theorem dX25_offer_33 : decode cX25_offer 33 = .ok (.return_, 1) := dk_177 (dk_at dksX25_offer_1 9 rfl rfl)
abbrev cX25_due : ByteArray := prog_11_method_7_code
def yX25_due : MethodName := ⟨RX25, "due", "(I)V"⟩
def dkwX25_due_2 : List UInt8 := [167, 0, 4, 28, 181, 0, 22, 177]
abbrev dktX25_due_2 : List UInt8 := dkwX25_due_2 ++ []
def dkwX25_due_1 : List UInt8 := [5, 96, 167, 0, 14, 42, 180, 0, 22, 42, 180, 0, 22, 5, 108, 96, 61, 42, 28, 27, 162, 0, 7, 27]
abbrev dktX25_due_1 : List UInt8 := dkwX25_due_1 ++ dktX25_due_2
def dkwX25_due_0 : List UInt8 := [27, 42, 180, 0, 22, 163, 0, 4, 177, 42, 180, 0, 22, 16, 64, 162, 0, 14, 5, 42, 180, 0, 22, 104]
abbrev dktX25_due_0 : List UInt8 := dkwX25_due_0 ++ dktX25_due_1
theorem dksX25_due_0 : cX25_due.data.toList.drop 0 = dktX25_due_0 := by decide +kernel
theorem dksX25_due_1 : cX25_due.data.toList.drop 24 = dktX25_due_1 := dk_seg dksX25_due_0 24 rfl rfl
theorem dksX25_due_2 : cX25_due.data.toList.drop 48 = dktX25_due_2 := dk_seg dksX25_due_1 24 rfl rfl
theorem dX25_due_0 : decode cX25_due 0 = .ok (.iload_n 1, 1) := dk_27 (dk_at dksX25_due_0 0 rfl rfl)
theorem dX25_due_1 : decode cX25_due 1 = .ok (.aload_n 0, 1) := dk_42 (dk_at dksX25_due_0 1 rfl rfl)
theorem dX25_due_2 : decode cX25_due 2 = .ok (.getfield 22, 3) := dk_180 0 22 (dk_at dksX25_due_0 2 rfl rfl)
theorem dX25_due_5 : decode cX25_due 5 = .ok (.if_icmp .gt 4, 3) := dk_163 0 4 (dk_at dksX25_due_0 5 rfl rfl)
theorem dX25_due_8 : decode cX25_due 8 = .ok (.return_, 1) := dk_177 (dk_at dksX25_due_0 8 rfl rfl)
theorem dX25_due_9 : decode cX25_due 9 = .ok (.aload_n 0, 1) := dk_42 (dk_at dksX25_due_0 9 rfl rfl)
theorem dX25_due_10 : decode cX25_due 10 = .ok (.getfield 22, 3) := dk_180 0 22 (dk_at dksX25_due_0 10 rfl rfl)
theorem dX25_due_13 : decode cX25_due 13 = .ok (.bipush 64, 2) := dk_16 64 (dk_at dksX25_due_0 13 rfl rfl)
theorem dX25_due_15 : decode cX25_due 15 = .ok (.if_icmp .ge 14, 3) := dk_162 0 14 (dk_at dksX25_due_0 15 rfl rfl)
theorem dX25_due_18 : decode cX25_due 18 = .ok (.iconst 2, 1) := dk_5 (dk_at dksX25_due_0 18 rfl rfl)
theorem dX25_due_19 : decode cX25_due 19 = .ok (.aload_n 0, 1) := dk_42 (dk_at dksX25_due_0 19 rfl rfl)
theorem dX25_due_20 : decode cX25_due 20 = .ok (.getfield 22, 3) := dk_180 0 22 (dk_at dksX25_due_0 20 rfl rfl)
theorem dX25_due_23 : decode cX25_due 23 = .ok (.imul, 1) := dk_104 (dk_at dksX25_due_0 23 rfl rfl)
theorem dX25_due_24 : decode cX25_due 24 = .ok (.iconst 2, 1) := dk_5 (dk_at dksX25_due_1 0 rfl rfl)
theorem dX25_due_25 : decode cX25_due 25 = .ok (.iadd, 1) := dk_96 (dk_at dksX25_due_1 1 rfl rfl)
theorem dX25_due_26 : decode cX25_due 26 = .ok (.goto 14, 3) := dk_167 0 14 (dk_at dksX25_due_1 2 rfl rfl)
theorem dX25_due_29 : decode cX25_due 29 = .ok (.aload_n 0, 1) := dk_42 (dk_at dksX25_due_1 5 rfl rfl)
theorem dX25_due_30 : decode cX25_due 30 = .ok (.getfield 22, 3) := dk_180 0 22 (dk_at dksX25_due_1 6 rfl rfl)
theorem dX25_due_33 : decode cX25_due 33 = .ok (.aload_n 0, 1) := dk_42 (dk_at dksX25_due_1 9 rfl rfl)
theorem dX25_due_34 : decode cX25_due 34 = .ok (.getfield 22, 3) := dk_180 0 22 (dk_at dksX25_due_1 10 rfl rfl)
theorem dX25_due_37 : decode cX25_due 37 = .ok (.iconst 2, 1) := dk_5 (dk_at dksX25_due_1 13 rfl rfl)
theorem dX25_due_38 : decode cX25_due 38 = .ok (.idiv, 1) := dk_108 (dk_at dksX25_due_1 14 rfl rfl)
theorem dX25_due_39 : decode cX25_due 39 = .ok (.iadd, 1) := dk_96 (dk_at dksX25_due_1 15 rfl rfl)
theorem dX25_due_40 : decode cX25_due 40 = .ok (.istore_n 2, 1) := dk_61 (dk_at dksX25_due_1 16 rfl rfl)
theorem dX25_due_41 : decode cX25_due 41 = .ok (.aload_n 0, 1) := dk_42 (dk_at dksX25_due_1 17 rfl rfl)
theorem dX25_due_42 : decode cX25_due 42 = .ok (.iload_n 2, 1) := dk_28 (dk_at dksX25_due_1 18 rfl rfl)
theorem dX25_due_43 : decode cX25_due 43 = .ok (.iload_n 1, 1) := dk_27 (dk_at dksX25_due_1 19 rfl rfl)
theorem dX25_due_44 : decode cX25_due 44 = .ok (.if_icmp .ge 7, 3) := dk_162 0 7 (dk_at dksX25_due_1 20 rfl rfl)
theorem dX25_due_47 : decode cX25_due 47 = .ok (.iload_n 1, 1) := dk_27 (dk_at dksX25_due_1 23 rfl rfl)
theorem dX25_due_48 : decode cX25_due 48 = .ok (.goto 4, 3) := dk_167 0 4 (dk_at dksX25_due_2 0 rfl rfl)
theorem dX25_due_51 : decode cX25_due 51 = .ok (.iload_n 2, 1) := dk_28 (dk_at dksX25_due_2 3 rfl rfl)
theorem dX25_due_52 : decode cX25_due 52 = .ok (.putfield 22, 3) := dk_181 0 22 (dk_at dksX25_due_2 4 rfl rfl)
theorem dX25_due_55 : decode cX25_due 55 = .ok (.return_, 1) := dk_177 (dk_at dksX25_due_2 7 rfl rfl)
abbrev cX25_add : ByteArray := prog_11_method_8_code
def yX25_add : MethodName := ⟨RX25, "add", "(I)V"⟩
def dkwX25_add_2 : List UInt8 := [4, 100, 182, 0, 45, 177]
abbrev dktX25_add_2 : List UInt8 := dkwX25_add_2 ++ []
def dkwX25_add_1 : List UInt8 := [89, 180, 0, 28, 4, 96, 181, 0, 28, 42, 89, 180, 0, 18, 4, 96, 181, 0, 18, 42, 42, 180, 0, 18]
abbrev dktX25_add_1 : List UInt8 := dkwX25_add_1 ++ dktX25_add_2
def dkwX25_add_0 : List UInt8 := [42, 180, 0, 9, 42, 180, 0, 18, 27, 79, 42, 180, 0, 15, 42, 180, 0, 18, 42, 180, 0, 28, 79, 42]
abbrev dktX25_add_0 : List UInt8 := dkwX25_add_0 ++ dktX25_add_1
theorem dksX25_add_0 : cX25_add.data.toList.drop 0 = dktX25_add_0 := by decide +kernel
theorem dksX25_add_1 : cX25_add.data.toList.drop 24 = dktX25_add_1 := dk_seg dksX25_add_0 24 rfl rfl
theorem dksX25_add_2 : cX25_add.data.toList.drop 48 = dktX25_add_2 := dk_seg dksX25_add_1 24 rfl rfl
theorem dX25_add_0 : decode cX25_add 0 = .ok (.aload_n 0, 1) := dk_42 (dk_at dksX25_add_0 0 rfl rfl)
theorem dX25_add_1 : decode cX25_add 1 = .ok (.getfield 9, 3) := dk_180 0 9 (dk_at dksX25_add_0 1 rfl rfl)
theorem dX25_add_4 : decode cX25_add 4 = .ok (.aload_n 0, 1) := dk_42 (dk_at dksX25_add_0 4 rfl rfl)
theorem dX25_add_5 : decode cX25_add 5 = .ok (.getfield 18, 3) := dk_180 0 18 (dk_at dksX25_add_0 5 rfl rfl)
theorem dX25_add_8 : decode cX25_add 8 = .ok (.iload_n 1, 1) := dk_27 (dk_at dksX25_add_0 8 rfl rfl)
theorem dX25_add_9 : decode cX25_add 9 = .ok (.iastore, 1) := dk_79 (dk_at dksX25_add_0 9 rfl rfl)
theorem dX25_add_10 : decode cX25_add 10 = .ok (.aload_n 0, 1) := dk_42 (dk_at dksX25_add_0 10 rfl rfl)
theorem dX25_add_11 : decode cX25_add 11 = .ok (.getfield 15, 3) := dk_180 0 15 (dk_at dksX25_add_0 11 rfl rfl)
theorem dX25_add_14 : decode cX25_add 14 = .ok (.aload_n 0, 1) := dk_42 (dk_at dksX25_add_0 14 rfl rfl)
theorem dX25_add_15 : decode cX25_add 15 = .ok (.getfield 18, 3) := dk_180 0 18 (dk_at dksX25_add_0 15 rfl rfl)
theorem dX25_add_18 : decode cX25_add 18 = .ok (.aload_n 0, 1) := dk_42 (dk_at dksX25_add_0 18 rfl rfl)
theorem dX25_add_19 : decode cX25_add 19 = .ok (.getfield 28, 3) := dk_180 0 28 (dk_at dksX25_add_0 19 rfl rfl)
theorem dX25_add_22 : decode cX25_add 22 = .ok (.iastore, 1) := dk_79 (dk_at dksX25_add_0 22 rfl rfl)
theorem dX25_add_23 : decode cX25_add 23 = .ok (.aload_n 0, 1) := dk_42 (dk_at dksX25_add_0 23 rfl rfl)
theorem dX25_add_24 : decode cX25_add 24 = .ok (.dup, 1) := dk_89 (dk_at dksX25_add_1 0 rfl rfl)
theorem dX25_add_25 : decode cX25_add 25 = .ok (.getfield 28, 3) := dk_180 0 28 (dk_at dksX25_add_1 1 rfl rfl)
theorem dX25_add_28 : decode cX25_add 28 = .ok (.iconst 1, 1) := dk_4 (dk_at dksX25_add_1 4 rfl rfl)
theorem dX25_add_29 : decode cX25_add 29 = .ok (.iadd, 1) := dk_96 (dk_at dksX25_add_1 5 rfl rfl)
theorem dX25_add_30 : decode cX25_add 30 = .ok (.putfield 28, 3) := dk_181 0 28 (dk_at dksX25_add_1 6 rfl rfl)
theorem dX25_add_33 : decode cX25_add 33 = .ok (.aload_n 0, 1) := dk_42 (dk_at dksX25_add_1 9 rfl rfl)
theorem dX25_add_34 : decode cX25_add 34 = .ok (.dup, 1) := dk_89 (dk_at dksX25_add_1 10 rfl rfl)
theorem dX25_add_35 : decode cX25_add 35 = .ok (.getfield 18, 3) := dk_180 0 18 (dk_at dksX25_add_1 11 rfl rfl)
theorem dX25_add_38 : decode cX25_add 38 = .ok (.iconst 1, 1) := dk_4 (dk_at dksX25_add_1 14 rfl rfl)
theorem dX25_add_39 : decode cX25_add 39 = .ok (.iadd, 1) := dk_96 (dk_at dksX25_add_1 15 rfl rfl)
theorem dX25_add_40 : decode cX25_add 40 = .ok (.putfield 18, 3) := dk_181 0 18 (dk_at dksX25_add_1 16 rfl rfl)
theorem dX25_add_43 : decode cX25_add 43 = .ok (.aload_n 0, 1) := dk_42 (dk_at dksX25_add_1 19 rfl rfl)
theorem dX25_add_44 : decode cX25_add 44 = .ok (.aload_n 0, 1) := dk_42 (dk_at dksX25_add_1 20 rfl rfl)
theorem dX25_add_45 : decode cX25_add 45 = .ok (.getfield 18, 3) := dk_180 0 18 (dk_at dksX25_add_1 21 rfl rfl)
theorem dX25_add_48 : decode cX25_add 48 = .ok (.iconst 1, 1) := dk_4 (dk_at dksX25_add_2 0 rfl rfl)
theorem dX25_add_49 : decode cX25_add 49 = .ok (.isub, 1) := dk_100 (dk_at dksX25_add_2 1 rfl rfl)
theorem dX25_add_50 : decode cX25_add 50 = .ok (.invokevirtual 45, 3) := dk_182 0 45 (dk_at dksX25_add_2 2 rfl rfl)
theorem dX25_add_53 : decode cX25_add 53 = .ok (.return_, 1) := dk_177 (dk_at dksX25_add_2 5 rfl rfl)
abbrev cX25_up : ByteArray := prog_11_method_5_code
def yX25_up : MethodName := ⟨RX25, "up", "(I)V"⟩
def dkwX25_up_1 : List UInt8 := [5, 108, 182, 0, 41, 28, 4, 100, 5, 108, 61, 167, 255, 223, 177]
abbrev dktX25_up_1 : List UInt8 := dkwX25_up_1 ++ []
def dkwX25_up_0 : List UInt8 := [27, 61, 28, 158, 0, 35, 42, 28, 28, 4, 100, 5, 108, 182, 0, 37, 153, 0, 22, 42, 28, 28, 4, 100]
abbrev dktX25_up_0 : List UInt8 := dkwX25_up_0 ++ dktX25_up_1
theorem dksX25_up_0 : cX25_up.data.toList.drop 0 = dktX25_up_0 := by decide +kernel
theorem dksX25_up_1 : cX25_up.data.toList.drop 24 = dktX25_up_1 := dk_seg dksX25_up_0 24 rfl rfl
theorem dX25_up_0 : decode cX25_up 0 = .ok (.iload_n 1, 1) := dk_27 (dk_at dksX25_up_0 0 rfl rfl)
theorem dX25_up_1 : decode cX25_up 1 = .ok (.istore_n 2, 1) := dk_61 (dk_at dksX25_up_0 1 rfl rfl)
theorem dX25_up_2 : decode cX25_up 2 = .ok (.iload_n 2, 1) := dk_28 (dk_at dksX25_up_0 2 rfl rfl)
theorem dX25_up_3 : decode cX25_up 3 = .ok (.ifCond .le 35, 3) := dk_158 0 35 (dk_at dksX25_up_0 3 rfl rfl)
theorem dX25_up_6 : decode cX25_up 6 = .ok (.aload_n 0, 1) := dk_42 (dk_at dksX25_up_0 6 rfl rfl)
theorem dX25_up_7 : decode cX25_up 7 = .ok (.iload_n 2, 1) := dk_28 (dk_at dksX25_up_0 7 rfl rfl)
theorem dX25_up_8 : decode cX25_up 8 = .ok (.iload_n 2, 1) := dk_28 (dk_at dksX25_up_0 8 rfl rfl)
theorem dX25_up_9 : decode cX25_up 9 = .ok (.iconst 1, 1) := dk_4 (dk_at dksX25_up_0 9 rfl rfl)
theorem dX25_up_10 : decode cX25_up 10 = .ok (.isub, 1) := dk_100 (dk_at dksX25_up_0 10 rfl rfl)
theorem dX25_up_11 : decode cX25_up 11 = .ok (.iconst 2, 1) := dk_5 (dk_at dksX25_up_0 11 rfl rfl)
theorem dX25_up_12 : decode cX25_up 12 = .ok (.idiv, 1) := dk_108 (dk_at dksX25_up_0 12 rfl rfl)
theorem dX25_up_13 : decode cX25_up 13 = .ok (.invokevirtual 37, 3) := dk_182 0 37 (dk_at dksX25_up_0 13 rfl rfl)
theorem dX25_up_16 : decode cX25_up 16 = .ok (.ifCond .eq 22, 3) := dk_153 0 22 (dk_at dksX25_up_0 16 rfl rfl)
theorem dX25_up_19 : decode cX25_up 19 = .ok (.aload_n 0, 1) := dk_42 (dk_at dksX25_up_0 19 rfl rfl)
theorem dX25_up_20 : decode cX25_up 20 = .ok (.iload_n 2, 1) := dk_28 (dk_at dksX25_up_0 20 rfl rfl)
theorem dX25_up_21 : decode cX25_up 21 = .ok (.iload_n 2, 1) := dk_28 (dk_at dksX25_up_0 21 rfl rfl)
theorem dX25_up_22 : decode cX25_up 22 = .ok (.iconst 1, 1) := dk_4 (dk_at dksX25_up_0 22 rfl rfl)
theorem dX25_up_23 : decode cX25_up 23 = .ok (.isub, 1) := dk_100 (dk_at dksX25_up_0 23 rfl rfl)
theorem dX25_up_24 : decode cX25_up 24 = .ok (.iconst 2, 1) := dk_5 (dk_at dksX25_up_1 0 rfl rfl)
theorem dX25_up_25 : decode cX25_up 25 = .ok (.idiv, 1) := dk_108 (dk_at dksX25_up_1 1 rfl rfl)
theorem dX25_up_26 : decode cX25_up 26 = .ok (.invokevirtual 41, 3) := dk_182 0 41 (dk_at dksX25_up_1 2 rfl rfl)
theorem dX25_up_29 : decode cX25_up 29 = .ok (.iload_n 2, 1) := dk_28 (dk_at dksX25_up_1 5 rfl rfl)
theorem dX25_up_30 : decode cX25_up 30 = .ok (.iconst 1, 1) := dk_4 (dk_at dksX25_up_1 6 rfl rfl)
theorem dX25_up_31 : decode cX25_up 31 = .ok (.isub, 1) := dk_100 (dk_at dksX25_up_1 7 rfl rfl)
theorem dX25_up_32 : decode cX25_up 32 = .ok (.iconst 2, 1) := dk_5 (dk_at dksX25_up_1 8 rfl rfl)
theorem dX25_up_33 : decode cX25_up 33 = .ok (.idiv, 1) := dk_108 (dk_at dksX25_up_1 9 rfl rfl)
theorem dX25_up_34 : decode cX25_up 34 = .ok (.istore_n 2, 1) := dk_61 (dk_at dksX25_up_1 10 rfl rfl)
theorem dX25_up_35 : decode cX25_up 35 = .ok (.goto (-33), 3) := dk_167 255 223 (dk_at dksX25_up_1 11 rfl rfl)
theorem dX25_up_38 : decode cX25_up 38 = .ok (.return_, 1) := dk_177 (dk_at dksX25_up_1 14 rfl rfl)
abbrev cX25_isBefore : ByteArray := prog_11_method_3_code
def yX25_isBefore : MethodName := ⟨RX25, "isBefore", "(II)Z"⟩
def dkwX25_isBefore_2 : List UInt8 := [162, 0, 7, 4, 167, 0, 4, 3, 172]
abbrev dktX25_isBefore_2 : List UInt8 := dkwX25_isBefore_2 ++ []
def dkwX25_isBefore_1 : List UInt8 := [29, 156, 0, 7, 4, 167, 0, 27, 3, 167, 0, 23, 42, 180, 0, 15, 27, 46, 42, 180, 0, 15, 28, 46]
abbrev dktX25_isBefore_1 : List UInt8 := dkwX25_isBefore_1 ++ dktX25_isBefore_2
def dkwX25_isBefore_0 : List UInt8 := [42, 180, 0, 25, 42, 180, 0, 9, 27, 46, 42, 180, 0, 9, 28, 46, 184, 0, 31, 62, 29, 153, 0, 15]
abbrev dktX25_isBefore_0 : List UInt8 := dkwX25_isBefore_0 ++ dktX25_isBefore_1
theorem dksX25_isBefore_0 : cX25_isBefore.data.toList.drop 0 = dktX25_isBefore_0 := by decide +kernel
theorem dksX25_isBefore_1 : cX25_isBefore.data.toList.drop 24 = dktX25_isBefore_1 := dk_seg dksX25_isBefore_0 24 rfl rfl
theorem dksX25_isBefore_2 : cX25_isBefore.data.toList.drop 48 = dktX25_isBefore_2 := dk_seg dksX25_isBefore_1 24 rfl rfl
theorem dX25_isBefore_0 : decode cX25_isBefore 0 = .ok (.aload_n 0, 1) := dk_42 (dk_at dksX25_isBefore_0 0 rfl rfl)
theorem dX25_isBefore_1 : decode cX25_isBefore 1 = .ok (.getfield 25, 3) := dk_180 0 25 (dk_at dksX25_isBefore_0 1 rfl rfl)
theorem dX25_isBefore_4 : decode cX25_isBefore 4 = .ok (.aload_n 0, 1) := dk_42 (dk_at dksX25_isBefore_0 4 rfl rfl)
theorem dX25_isBefore_5 : decode cX25_isBefore 5 = .ok (.getfield 9, 3) := dk_180 0 9 (dk_at dksX25_isBefore_0 5 rfl rfl)
theorem dX25_isBefore_8 : decode cX25_isBefore 8 = .ok (.iload_n 1, 1) := dk_27 (dk_at dksX25_isBefore_0 8 rfl rfl)
theorem dX25_isBefore_9 : decode cX25_isBefore 9 = .ok (.iaload, 1) := dk_46 (dk_at dksX25_isBefore_0 9 rfl rfl)
theorem dX25_isBefore_10 : decode cX25_isBefore 10 = .ok (.aload_n 0, 1) := dk_42 (dk_at dksX25_isBefore_0 10 rfl rfl)
theorem dX25_isBefore_11 : decode cX25_isBefore 11 = .ok (.getfield 9, 3) := dk_180 0 9 (dk_at dksX25_isBefore_0 11 rfl rfl)
theorem dX25_isBefore_14 : decode cX25_isBefore 14 = .ok (.iload_n 2, 1) := dk_28 (dk_at dksX25_isBefore_0 14 rfl rfl)
theorem dX25_isBefore_15 : decode cX25_isBefore 15 = .ok (.iaload, 1) := dk_46 (dk_at dksX25_isBefore_0 15 rfl rfl)
theorem dX25_isBefore_16 : decode cX25_isBefore 16 = .ok (.invokestatic 31, 3) := dk_184 0 31 (dk_at dksX25_isBefore_0 16 rfl rfl)
theorem dX25_isBefore_19 : decode cX25_isBefore 19 = .ok (.istore_n 3, 1) := dk_62 (dk_at dksX25_isBefore_0 19 rfl rfl)
theorem dX25_isBefore_20 : decode cX25_isBefore 20 = .ok (.iload_n 3, 1) := dk_29 (dk_at dksX25_isBefore_0 20 rfl rfl)
theorem dX25_isBefore_21 : decode cX25_isBefore 21 = .ok (.ifCond .eq 15, 3) := dk_153 0 15 (dk_at dksX25_isBefore_0 21 rfl rfl)
theorem dX25_isBefore_24 : decode cX25_isBefore 24 = .ok (.iload_n 3, 1) := dk_29 (dk_at dksX25_isBefore_1 0 rfl rfl)
theorem dX25_isBefore_25 : decode cX25_isBefore 25 = .ok (.ifCond .ge 7, 3) := dk_156 0 7 (dk_at dksX25_isBefore_1 1 rfl rfl)
theorem dX25_isBefore_28 : decode cX25_isBefore 28 = .ok (.iconst 1, 1) := dk_4 (dk_at dksX25_isBefore_1 4 rfl rfl)
theorem dX25_isBefore_29 : decode cX25_isBefore 29 = .ok (.goto 27, 3) := dk_167 0 27 (dk_at dksX25_isBefore_1 5 rfl rfl)
theorem dX25_isBefore_32 : decode cX25_isBefore 32 = .ok (.iconst 0, 1) := dk_3 (dk_at dksX25_isBefore_1 8 rfl rfl)
theorem dX25_isBefore_33 : decode cX25_isBefore 33 = .ok (.goto 23, 3) := dk_167 0 23 (dk_at dksX25_isBefore_1 9 rfl rfl)
theorem dX25_isBefore_36 : decode cX25_isBefore 36 = .ok (.aload_n 0, 1) := dk_42 (dk_at dksX25_isBefore_1 12 rfl rfl)
theorem dX25_isBefore_37 : decode cX25_isBefore 37 = .ok (.getfield 15, 3) := dk_180 0 15 (dk_at dksX25_isBefore_1 13 rfl rfl)
theorem dX25_isBefore_40 : decode cX25_isBefore 40 = .ok (.iload_n 1, 1) := dk_27 (dk_at dksX25_isBefore_1 16 rfl rfl)
theorem dX25_isBefore_41 : decode cX25_isBefore 41 = .ok (.iaload, 1) := dk_46 (dk_at dksX25_isBefore_1 17 rfl rfl)
theorem dX25_isBefore_42 : decode cX25_isBefore 42 = .ok (.aload_n 0, 1) := dk_42 (dk_at dksX25_isBefore_1 18 rfl rfl)
theorem dX25_isBefore_43 : decode cX25_isBefore 43 = .ok (.getfield 15, 3) := dk_180 0 15 (dk_at dksX25_isBefore_1 19 rfl rfl)
theorem dX25_isBefore_46 : decode cX25_isBefore 46 = .ok (.iload_n 2, 1) := dk_28 (dk_at dksX25_isBefore_1 22 rfl rfl)
theorem dX25_isBefore_47 : decode cX25_isBefore 47 = .ok (.iaload, 1) := dk_46 (dk_at dksX25_isBefore_1 23 rfl rfl)
theorem dX25_isBefore_48 : decode cX25_isBefore 48 = .ok (.if_icmp .ge 7, 3) := dk_162 0 7 (dk_at dksX25_isBefore_2 0 rfl rfl)
theorem dX25_isBefore_51 : decode cX25_isBefore 51 = .ok (.iconst 1, 1) := dk_4 (dk_at dksX25_isBefore_2 3 rfl rfl)
theorem dX25_isBefore_52 : decode cX25_isBefore 52 = .ok (.goto 4, 3) := dk_167 0 4 (dk_at dksX25_isBefore_2 4 rfl rfl)
theorem dX25_isBefore_55 : decode cX25_isBefore 55 = .ok (.iconst 0, 1) := dk_3 (dk_at dksX25_isBefore_2 7 rfl rfl)
theorem dX25_isBefore_56 : decode cX25_isBefore 56 = .ok (.ireturn, 1) := dk_172 (dk_at dksX25_isBefore_2 8 rfl rfl)
abbrev cX25_swap : ByteArray := prog_11_method_4_code
def yX25_swap : MethodName := ⟨RX25, "swap", "(II)V"⟩
def dkwX25_swap_2 : List UInt8 := [180, 0, 15, 28, 21, 4, 79, 177]
abbrev dktX25_swap_2 : List UInt8 := dkwX25_swap_2 ++ []
def dkwX25_swap_1 : List UInt8 := [28, 46, 79, 42, 180, 0, 15, 27, 42, 180, 0, 15, 28, 46, 79, 42, 180, 0, 9, 28, 29, 79, 42]
abbrev dktX25_swap_1 : List UInt8 := dkwX25_swap_1 ++ dktX25_swap_2
def dkwX25_swap_0 : List UInt8 := [42, 180, 0, 9, 27, 46, 62, 42, 180, 0, 15, 27, 46, 54, 4, 42, 180, 0, 9, 27, 42, 180, 0, 9]
abbrev dktX25_swap_0 : List UInt8 := dkwX25_swap_0 ++ dktX25_swap_1
theorem dksX25_swap_0 : cX25_swap.data.toList.drop 0 = dktX25_swap_0 := by decide +kernel
theorem dksX25_swap_1 : cX25_swap.data.toList.drop 24 = dktX25_swap_1 := dk_seg dksX25_swap_0 24 rfl rfl
theorem dksX25_swap_2 : cX25_swap.data.toList.drop 47 = dktX25_swap_2 := dk_seg dksX25_swap_1 23 rfl rfl
theorem dX25_swap_0 : decode cX25_swap 0 = .ok (.aload_n 0, 1) := dk_42 (dk_at dksX25_swap_0 0 rfl rfl)
theorem dX25_swap_1 : decode cX25_swap 1 = .ok (.getfield 9, 3) := dk_180 0 9 (dk_at dksX25_swap_0 1 rfl rfl)
theorem dX25_swap_4 : decode cX25_swap 4 = .ok (.iload_n 1, 1) := dk_27 (dk_at dksX25_swap_0 4 rfl rfl)
theorem dX25_swap_5 : decode cX25_swap 5 = .ok (.iaload, 1) := dk_46 (dk_at dksX25_swap_0 5 rfl rfl)
theorem dX25_swap_6 : decode cX25_swap 6 = .ok (.istore_n 3, 1) := dk_62 (dk_at dksX25_swap_0 6 rfl rfl)
theorem dX25_swap_7 : decode cX25_swap 7 = .ok (.aload_n 0, 1) := dk_42 (dk_at dksX25_swap_0 7 rfl rfl)
theorem dX25_swap_8 : decode cX25_swap 8 = .ok (.getfield 15, 3) := dk_180 0 15 (dk_at dksX25_swap_0 8 rfl rfl)
theorem dX25_swap_11 : decode cX25_swap 11 = .ok (.iload_n 1, 1) := dk_27 (dk_at dksX25_swap_0 11 rfl rfl)
theorem dX25_swap_12 : decode cX25_swap 12 = .ok (.iaload, 1) := dk_46 (dk_at dksX25_swap_0 12 rfl rfl)
theorem dX25_swap_13 : decode cX25_swap 13 = .ok (.istore 4, 2) := dk_54 4 (dk_at dksX25_swap_0 13 rfl rfl)
theorem dX25_swap_15 : decode cX25_swap 15 = .ok (.aload_n 0, 1) := dk_42 (dk_at dksX25_swap_0 15 rfl rfl)
theorem dX25_swap_16 : decode cX25_swap 16 = .ok (.getfield 9, 3) := dk_180 0 9 (dk_at dksX25_swap_0 16 rfl rfl)
theorem dX25_swap_19 : decode cX25_swap 19 = .ok (.iload_n 1, 1) := dk_27 (dk_at dksX25_swap_0 19 rfl rfl)
theorem dX25_swap_20 : decode cX25_swap 20 = .ok (.aload_n 0, 1) := dk_42 (dk_at dksX25_swap_0 20 rfl rfl)
theorem dX25_swap_21 : decode cX25_swap 21 = .ok (.getfield 9, 3) := dk_180 0 9 (dk_at dksX25_swap_0 21 rfl rfl)
theorem dX25_swap_24 : decode cX25_swap 24 = .ok (.iload_n 2, 1) := dk_28 (dk_at dksX25_swap_1 0 rfl rfl)
theorem dX25_swap_25 : decode cX25_swap 25 = .ok (.iaload, 1) := dk_46 (dk_at dksX25_swap_1 1 rfl rfl)
theorem dX25_swap_26 : decode cX25_swap 26 = .ok (.iastore, 1) := dk_79 (dk_at dksX25_swap_1 2 rfl rfl)
theorem dX25_swap_27 : decode cX25_swap 27 = .ok (.aload_n 0, 1) := dk_42 (dk_at dksX25_swap_1 3 rfl rfl)
theorem dX25_swap_28 : decode cX25_swap 28 = .ok (.getfield 15, 3) := dk_180 0 15 (dk_at dksX25_swap_1 4 rfl rfl)
theorem dX25_swap_31 : decode cX25_swap 31 = .ok (.iload_n 1, 1) := dk_27 (dk_at dksX25_swap_1 7 rfl rfl)
theorem dX25_swap_32 : decode cX25_swap 32 = .ok (.aload_n 0, 1) := dk_42 (dk_at dksX25_swap_1 8 rfl rfl)
theorem dX25_swap_33 : decode cX25_swap 33 = .ok (.getfield 15, 3) := dk_180 0 15 (dk_at dksX25_swap_1 9 rfl rfl)
theorem dX25_swap_36 : decode cX25_swap 36 = .ok (.iload_n 2, 1) := dk_28 (dk_at dksX25_swap_1 12 rfl rfl)
theorem dX25_swap_37 : decode cX25_swap 37 = .ok (.iaload, 1) := dk_46 (dk_at dksX25_swap_1 13 rfl rfl)
theorem dX25_swap_38 : decode cX25_swap 38 = .ok (.iastore, 1) := dk_79 (dk_at dksX25_swap_1 14 rfl rfl)
theorem dX25_swap_39 : decode cX25_swap 39 = .ok (.aload_n 0, 1) := dk_42 (dk_at dksX25_swap_1 15 rfl rfl)
theorem dX25_swap_40 : decode cX25_swap 40 = .ok (.getfield 9, 3) := dk_180 0 9 (dk_at dksX25_swap_1 16 rfl rfl)
theorem dX25_swap_43 : decode cX25_swap 43 = .ok (.iload_n 2, 1) := dk_28 (dk_at dksX25_swap_1 19 rfl rfl)
theorem dX25_swap_44 : decode cX25_swap 44 = .ok (.iload_n 3, 1) := dk_29 (dk_at dksX25_swap_1 20 rfl rfl)
theorem dX25_swap_45 : decode cX25_swap 45 = .ok (.iastore, 1) := dk_79 (dk_at dksX25_swap_1 21 rfl rfl)
theorem dX25_swap_46 : decode cX25_swap 46 = .ok (.aload_n 0, 1) := dk_42 (dk_at dksX25_swap_1 22 rfl rfl)
theorem dX25_swap_47 : decode cX25_swap 47 = .ok (.getfield 15, 3) := dk_180 0 15 (dk_at dksX25_swap_2 0 rfl rfl)
theorem dX25_swap_50 : decode cX25_swap 50 = .ok (.iload_n 2, 1) := dk_28 (dk_at dksX25_swap_2 3 rfl rfl)
theorem dX25_swap_51 : decode cX25_swap 51 = .ok (.iload 4, 2) := dk_21 4 (dk_at dksX25_swap_2 4 rfl rfl)
theorem dX25_swap_53 : decode cX25_swap 53 = .ok (.iastore, 1) := dk_79 (dk_at dksX25_swap_2 6 rfl rfl)
theorem dX25_swap_54 : decode cX25_swap 54 = .ok (.return_, 1) := dk_177 (dk_at dksX25_swap_2 7 rfl rfl)
abbrev cX25_take : ByteArray := prog_11_method_10_code
def yX25_take : MethodName := ⟨RX25, "take", "(I)I"⟩
def dkwX25_take_1 : List UInt8 := [162, 0, 22, 42, 27, 42, 180, 0, 18, 182, 0, 41, 42, 27, 182, 0, 58, 42, 27, 182, 0, 45, 28, 172]
abbrev dktX25_take_1 : List UInt8 := dkwX25_take_1 ++ []
def dkwX25_take_0 : List UInt8 := [42, 180, 0, 9, 27, 46, 61, 42, 89, 180, 0, 18, 4, 100, 181, 0, 18, 27, 42, 180, 0, 18]
abbrev dktX25_take_0 : List UInt8 := dkwX25_take_0 ++ dktX25_take_1
theorem dksX25_take_0 : cX25_take.data.toList.drop 0 = dktX25_take_0 := by decide +kernel
theorem dksX25_take_1 : cX25_take.data.toList.drop 22 = dktX25_take_1 := dk_seg dksX25_take_0 22 rfl rfl
theorem dX25_take_0 : decode cX25_take 0 = .ok (.aload_n 0, 1) := dk_42 (dk_at dksX25_take_0 0 rfl rfl)
theorem dX25_take_1 : decode cX25_take 1 = .ok (.getfield 9, 3) := dk_180 0 9 (dk_at dksX25_take_0 1 rfl rfl)
theorem dX25_take_4 : decode cX25_take 4 = .ok (.iload_n 1, 1) := dk_27 (dk_at dksX25_take_0 4 rfl rfl)
theorem dX25_take_5 : decode cX25_take 5 = .ok (.iaload, 1) := dk_46 (dk_at dksX25_take_0 5 rfl rfl)
theorem dX25_take_6 : decode cX25_take 6 = .ok (.istore_n 2, 1) := dk_61 (dk_at dksX25_take_0 6 rfl rfl)
theorem dX25_take_7 : decode cX25_take 7 = .ok (.aload_n 0, 1) := dk_42 (dk_at dksX25_take_0 7 rfl rfl)
theorem dX25_take_8 : decode cX25_take 8 = .ok (.dup, 1) := dk_89 (dk_at dksX25_take_0 8 rfl rfl)
theorem dX25_take_9 : decode cX25_take 9 = .ok (.getfield 18, 3) := dk_180 0 18 (dk_at dksX25_take_0 9 rfl rfl)
theorem dX25_take_12 : decode cX25_take 12 = .ok (.iconst 1, 1) := dk_4 (dk_at dksX25_take_0 12 rfl rfl)
theorem dX25_take_13 : decode cX25_take 13 = .ok (.isub, 1) := dk_100 (dk_at dksX25_take_0 13 rfl rfl)
theorem dX25_take_14 : decode cX25_take 14 = .ok (.putfield 18, 3) := dk_181 0 18 (dk_at dksX25_take_0 14 rfl rfl)
theorem dX25_take_17 : decode cX25_take 17 = .ok (.iload_n 1, 1) := dk_27 (dk_at dksX25_take_0 17 rfl rfl)
theorem dX25_take_18 : decode cX25_take 18 = .ok (.aload_n 0, 1) := dk_42 (dk_at dksX25_take_0 18 rfl rfl)
theorem dX25_take_19 : decode cX25_take 19 = .ok (.getfield 18, 3) := dk_180 0 18 (dk_at dksX25_take_0 19 rfl rfl)
theorem dX25_take_22 : decode cX25_take 22 = .ok (.if_icmp .ge 22, 3) := dk_162 0 22 (dk_at dksX25_take_1 0 rfl rfl)
theorem dX25_take_25 : decode cX25_take 25 = .ok (.aload_n 0, 1) := dk_42 (dk_at dksX25_take_1 3 rfl rfl)
theorem dX25_take_26 : decode cX25_take 26 = .ok (.iload_n 1, 1) := dk_27 (dk_at dksX25_take_1 4 rfl rfl)
theorem dX25_take_27 : decode cX25_take 27 = .ok (.aload_n 0, 1) := dk_42 (dk_at dksX25_take_1 5 rfl rfl)
theorem dX25_take_28 : decode cX25_take 28 = .ok (.getfield 18, 3) := dk_180 0 18 (dk_at dksX25_take_1 6 rfl rfl)
theorem dX25_take_31 : decode cX25_take 31 = .ok (.invokevirtual 41, 3) := dk_182 0 41 (dk_at dksX25_take_1 9 rfl rfl)
theorem dX25_take_34 : decode cX25_take 34 = .ok (.aload_n 0, 1) := dk_42 (dk_at dksX25_take_1 12 rfl rfl)
theorem dX25_take_35 : decode cX25_take 35 = .ok (.iload_n 1, 1) := dk_27 (dk_at dksX25_take_1 13 rfl rfl)
theorem dX25_take_36 : decode cX25_take 36 = .ok (.invokevirtual 58, 3) := dk_182 0 58 (dk_at dksX25_take_1 14 rfl rfl)
theorem dX25_take_39 : decode cX25_take 39 = .ok (.aload_n 0, 1) := dk_42 (dk_at dksX25_take_1 17 rfl rfl)
theorem dX25_take_40 : decode cX25_take 40 = .ok (.iload_n 1, 1) := dk_27 (dk_at dksX25_take_1 18 rfl rfl)
theorem dX25_take_41 : decode cX25_take 41 = .ok (.invokevirtual 45, 3) := dk_182 0 45 (dk_at dksX25_take_1 19 rfl rfl)
theorem dX25_take_44 : decode cX25_take 44 = .ok (.iload_n 2, 1) := dk_28 (dk_at dksX25_take_1 22 rfl rfl)
theorem dX25_take_45 : decode cX25_take 45 = .ok (.ireturn, 1) := dk_172 (dk_at dksX25_take_1 23 rfl rfl)
abbrev cX25_down : ByteArray := prog_11_method_6_code
def yX25_down : MethodName := ⟨RX25, "down", "(I)V"⟩
def dkwX25_down_4 : List UInt8 := [182, 0, 41, 21, 4, 61, 167, 255, 162, 177]
abbrev dktX25_down_4 : List UInt8 := dkwX25_down_4 ++ []
def dkwX25_down_3 : List UInt8 := [54, 4, 21, 4, 28, 159, 0, 7, 4, 167, 0, 4, 3, 62, 29, 153, 0, 10, 42, 28, 21, 4]
abbrev dktX25_down_3 : List UInt8 := dkwX25_down_3 ++ dktX25_down_4
def dkwX25_down_2 : List UInt8 := [180, 0, 18, 162, 0, 22, 42, 21, 5, 4, 96, 21, 4, 182, 0, 37, 153, 0, 9, 21, 5, 4, 96]
abbrev dktX25_down_2 : List UInt8 := dkwX25_down_2 ++ dktX25_down_3
def dkwX25_down_1 : List UInt8 := [162, 0, 18, 42, 21, 5, 21, 4, 182, 0, 37, 153, 0, 7, 21, 5, 54, 4, 21, 5, 4, 96, 42]
abbrev dktX25_down_1 : List UInt8 := dkwX25_down_1 ++ dktX25_down_2
def dkwX25_down_0 : List UInt8 := [27, 61, 4, 62, 29, 153, 0, 96, 28, 54, 4, 5, 28, 104, 4, 96, 54, 5, 21, 5, 42, 180, 0, 18]
abbrev dktX25_down_0 : List UInt8 := dkwX25_down_0 ++ dktX25_down_1
theorem dksX25_down_0 : cX25_down.data.toList.drop 0 = dktX25_down_0 := by decide +kernel
theorem dksX25_down_1 : cX25_down.data.toList.drop 24 = dktX25_down_1 := dk_seg dksX25_down_0 24 rfl rfl
theorem dksX25_down_2 : cX25_down.data.toList.drop 47 = dktX25_down_2 := dk_seg dksX25_down_1 23 rfl rfl
theorem dksX25_down_3 : cX25_down.data.toList.drop 70 = dktX25_down_3 := dk_seg dksX25_down_2 23 rfl rfl
theorem dksX25_down_4 : cX25_down.data.toList.drop 92 = dktX25_down_4 := dk_seg dksX25_down_3 22 rfl rfl
theorem dX25_down_0 : decode cX25_down 0 = .ok (.iload_n 1, 1) := dk_27 (dk_at dksX25_down_0 0 rfl rfl)
theorem dX25_down_1 : decode cX25_down 1 = .ok (.istore_n 2, 1) := dk_61 (dk_at dksX25_down_0 1 rfl rfl)
theorem dX25_down_2 : decode cX25_down 2 = .ok (.iconst 1, 1) := dk_4 (dk_at dksX25_down_0 2 rfl rfl)
theorem dX25_down_3 : decode cX25_down 3 = .ok (.istore_n 3, 1) := dk_62 (dk_at dksX25_down_0 3 rfl rfl)
theorem dX25_down_4 : decode cX25_down 4 = .ok (.iload_n 3, 1) := dk_29 (dk_at dksX25_down_0 4 rfl rfl)
theorem dX25_down_5 : decode cX25_down 5 = .ok (.ifCond .eq 96, 3) := dk_153 0 96 (dk_at dksX25_down_0 5 rfl rfl)
theorem dX25_down_8 : decode cX25_down 8 = .ok (.iload_n 2, 1) := dk_28 (dk_at dksX25_down_0 8 rfl rfl)
theorem dX25_down_9 : decode cX25_down 9 = .ok (.istore 4, 2) := dk_54 4 (dk_at dksX25_down_0 9 rfl rfl)
theorem dX25_down_11 : decode cX25_down 11 = .ok (.iconst 2, 1) := dk_5 (dk_at dksX25_down_0 11 rfl rfl)
theorem dX25_down_12 : decode cX25_down 12 = .ok (.iload_n 2, 1) := dk_28 (dk_at dksX25_down_0 12 rfl rfl)
theorem dX25_down_13 : decode cX25_down 13 = .ok (.imul, 1) := dk_104 (dk_at dksX25_down_0 13 rfl rfl)
theorem dX25_down_14 : decode cX25_down 14 = .ok (.iconst 1, 1) := dk_4 (dk_at dksX25_down_0 14 rfl rfl)
theorem dX25_down_15 : decode cX25_down 15 = .ok (.iadd, 1) := dk_96 (dk_at dksX25_down_0 15 rfl rfl)
theorem dX25_down_16 : decode cX25_down 16 = .ok (.istore 5, 2) := dk_54 5 (dk_at dksX25_down_0 16 rfl rfl)
theorem dX25_down_18 : decode cX25_down 18 = .ok (.iload 5, 2) := dk_21 5 (dk_at dksX25_down_0 18 rfl rfl)
theorem dX25_down_20 : decode cX25_down 20 = .ok (.aload_n 0, 1) := dk_42 (dk_at dksX25_down_0 20 rfl rfl)
theorem dX25_down_21 : decode cX25_down 21 = .ok (.getfield 18, 3) := dk_180 0 18 (dk_at dksX25_down_0 21 rfl rfl)
theorem dX25_down_24 : decode cX25_down 24 = .ok (.if_icmp .ge 18, 3) := dk_162 0 18 (dk_at dksX25_down_1 0 rfl rfl)
theorem dX25_down_27 : decode cX25_down 27 = .ok (.aload_n 0, 1) := dk_42 (dk_at dksX25_down_1 3 rfl rfl)
theorem dX25_down_28 : decode cX25_down 28 = .ok (.iload 5, 2) := dk_21 5 (dk_at dksX25_down_1 4 rfl rfl)
theorem dX25_down_30 : decode cX25_down 30 = .ok (.iload 4, 2) := dk_21 4 (dk_at dksX25_down_1 6 rfl rfl)
theorem dX25_down_32 : decode cX25_down 32 = .ok (.invokevirtual 37, 3) := dk_182 0 37 (dk_at dksX25_down_1 8 rfl rfl)
theorem dX25_down_35 : decode cX25_down 35 = .ok (.ifCond .eq 7, 3) := dk_153 0 7 (dk_at dksX25_down_1 11 rfl rfl)
theorem dX25_down_38 : decode cX25_down 38 = .ok (.iload 5, 2) := dk_21 5 (dk_at dksX25_down_1 14 rfl rfl)
theorem dX25_down_40 : decode cX25_down 40 = .ok (.istore 4, 2) := dk_54 4 (dk_at dksX25_down_1 16 rfl rfl)
theorem dX25_down_42 : decode cX25_down 42 = .ok (.iload 5, 2) := dk_21 5 (dk_at dksX25_down_1 18 rfl rfl)
theorem dX25_down_44 : decode cX25_down 44 = .ok (.iconst 1, 1) := dk_4 (dk_at dksX25_down_1 20 rfl rfl)
theorem dX25_down_45 : decode cX25_down 45 = .ok (.iadd, 1) := dk_96 (dk_at dksX25_down_1 21 rfl rfl)
theorem dX25_down_46 : decode cX25_down 46 = .ok (.aload_n 0, 1) := dk_42 (dk_at dksX25_down_1 22 rfl rfl)
theorem dX25_down_47 : decode cX25_down 47 = .ok (.getfield 18, 3) := dk_180 0 18 (dk_at dksX25_down_2 0 rfl rfl)
theorem dX25_down_50 : decode cX25_down 50 = .ok (.if_icmp .ge 22, 3) := dk_162 0 22 (dk_at dksX25_down_2 3 rfl rfl)
theorem dX25_down_53 : decode cX25_down 53 = .ok (.aload_n 0, 1) := dk_42 (dk_at dksX25_down_2 6 rfl rfl)
theorem dX25_down_54 : decode cX25_down 54 = .ok (.iload 5, 2) := dk_21 5 (dk_at dksX25_down_2 7 rfl rfl)
theorem dX25_down_56 : decode cX25_down 56 = .ok (.iconst 1, 1) := dk_4 (dk_at dksX25_down_2 9 rfl rfl)
theorem dX25_down_57 : decode cX25_down 57 = .ok (.iadd, 1) := dk_96 (dk_at dksX25_down_2 10 rfl rfl)
theorem dX25_down_58 : decode cX25_down 58 = .ok (.iload 4, 2) := dk_21 4 (dk_at dksX25_down_2 11 rfl rfl)
theorem dX25_down_60 : decode cX25_down 60 = .ok (.invokevirtual 37, 3) := dk_182 0 37 (dk_at dksX25_down_2 13 rfl rfl)
theorem dX25_down_63 : decode cX25_down 63 = .ok (.ifCond .eq 9, 3) := dk_153 0 9 (dk_at dksX25_down_2 16 rfl rfl)
theorem dX25_down_66 : decode cX25_down 66 = .ok (.iload 5, 2) := dk_21 5 (dk_at dksX25_down_2 19 rfl rfl)
theorem dX25_down_68 : decode cX25_down 68 = .ok (.iconst 1, 1) := dk_4 (dk_at dksX25_down_2 21 rfl rfl)
theorem dX25_down_69 : decode cX25_down 69 = .ok (.iadd, 1) := dk_96 (dk_at dksX25_down_2 22 rfl rfl)
theorem dX25_down_70 : decode cX25_down 70 = .ok (.istore 4, 2) := dk_54 4 (dk_at dksX25_down_3 0 rfl rfl)
theorem dX25_down_72 : decode cX25_down 72 = .ok (.iload 4, 2) := dk_21 4 (dk_at dksX25_down_3 2 rfl rfl)
theorem dX25_down_74 : decode cX25_down 74 = .ok (.iload_n 2, 1) := dk_28 (dk_at dksX25_down_3 4 rfl rfl)
theorem dX25_down_75 : decode cX25_down 75 = .ok (.if_icmp .eq 7, 3) := dk_159 0 7 (dk_at dksX25_down_3 5 rfl rfl)
theorem dX25_down_78 : decode cX25_down 78 = .ok (.iconst 1, 1) := dk_4 (dk_at dksX25_down_3 8 rfl rfl)
theorem dX25_down_79 : decode cX25_down 79 = .ok (.goto 4, 3) := dk_167 0 4 (dk_at dksX25_down_3 9 rfl rfl)
theorem dX25_down_82 : decode cX25_down 82 = .ok (.iconst 0, 1) := dk_3 (dk_at dksX25_down_3 12 rfl rfl)
theorem dX25_down_83 : decode cX25_down 83 = .ok (.istore_n 3, 1) := dk_62 (dk_at dksX25_down_3 13 rfl rfl)
theorem dX25_down_84 : decode cX25_down 84 = .ok (.iload_n 3, 1) := dk_29 (dk_at dksX25_down_3 14 rfl rfl)
theorem dX25_down_85 : decode cX25_down 85 = .ok (.ifCond .eq 10, 3) := dk_153 0 10 (dk_at dksX25_down_3 15 rfl rfl)
theorem dX25_down_88 : decode cX25_down 88 = .ok (.aload_n 0, 1) := dk_42 (dk_at dksX25_down_3 18 rfl rfl)
theorem dX25_down_89 : decode cX25_down 89 = .ok (.iload_n 2, 1) := dk_28 (dk_at dksX25_down_3 19 rfl rfl)
theorem dX25_down_90 : decode cX25_down 90 = .ok (.iload 4, 2) := dk_21 4 (dk_at dksX25_down_3 20 rfl rfl)
theorem dX25_down_92 : decode cX25_down 92 = .ok (.invokevirtual 41, 3) := dk_182 0 41 (dk_at dksX25_down_4 0 rfl rfl)
theorem dX25_down_95 : decode cX25_down 95 = .ok (.iload 4, 2) := dk_21 4 (dk_at dksX25_down_4 3 rfl rfl)
theorem dX25_down_97 : decode cX25_down 97 = .ok (.istore_n 2, 1) := dk_61 (dk_at dksX25_down_4 5 rfl rfl)
theorem dX25_down_98 : decode cX25_down 98 = .ok (.goto (-94), 3) := dk_167 255 162 (dk_at dksX25_down_4 6 rfl rfl)
theorem dX25_down_101 : decode cX25_down 101 = .ok (.return_, 1) := dk_177 (dk_at dksX25_down_4 9 rfl rfl)
abbrev cX25_remove : ByteArray := prog_11_method_11_code
def yX25_remove : MethodName := ⟨RX25, "remove", "(I)I"⟩
def dkwX25_remove_2 : List UInt8 := [167, 255, 214, 28, 156, 0, 5, 3, 172, 42, 28, 182, 0, 61, 62, 4, 172]
abbrev dktX25_remove_2 : List UInt8 := dkwX25_remove_2 ++ []
def dkwX25_remove_1 : List UInt8 := [155, 0, 18, 42, 180, 0, 15, 29, 46, 42, 180, 0, 15, 28, 46, 162, 0, 5, 29, 61, 132, 3, 1]
abbrev dktX25_remove_1 : List UInt8 := dkwX25_remove_1 ++ dktX25_remove_2
def dkwX25_remove_0 : List UInt8 := [2, 61, 3, 62, 29, 42, 180, 0, 18, 162, 0, 40, 42, 180, 0, 9, 29, 46, 27, 160, 0, 24, 28]
abbrev dktX25_remove_0 : List UInt8 := dkwX25_remove_0 ++ dktX25_remove_1
theorem dksX25_remove_0 : cX25_remove.data.toList.drop 0 = dktX25_remove_0 := by decide +kernel
theorem dksX25_remove_1 : cX25_remove.data.toList.drop 23 = dktX25_remove_1 := dk_seg dksX25_remove_0 23 rfl rfl
theorem dksX25_remove_2 : cX25_remove.data.toList.drop 46 = dktX25_remove_2 := dk_seg dksX25_remove_1 23 rfl rfl
theorem dX25_remove_0 : decode cX25_remove 0 = .ok (.iconst (-1), 1) := dk_2 (dk_at dksX25_remove_0 0 rfl rfl)
theorem dX25_remove_1 : decode cX25_remove 1 = .ok (.istore_n 2, 1) := dk_61 (dk_at dksX25_remove_0 1 rfl rfl)
theorem dX25_remove_2 : decode cX25_remove 2 = .ok (.iconst 0, 1) := dk_3 (dk_at dksX25_remove_0 2 rfl rfl)
theorem dX25_remove_3 : decode cX25_remove 3 = .ok (.istore_n 3, 1) := dk_62 (dk_at dksX25_remove_0 3 rfl rfl)
theorem dX25_remove_4 : decode cX25_remove 4 = .ok (.iload_n 3, 1) := dk_29 (dk_at dksX25_remove_0 4 rfl rfl)
theorem dX25_remove_5 : decode cX25_remove 5 = .ok (.aload_n 0, 1) := dk_42 (dk_at dksX25_remove_0 5 rfl rfl)
theorem dX25_remove_6 : decode cX25_remove 6 = .ok (.getfield 18, 3) := dk_180 0 18 (dk_at dksX25_remove_0 6 rfl rfl)
theorem dX25_remove_9 : decode cX25_remove 9 = .ok (.if_icmp .ge 40, 3) := dk_162 0 40 (dk_at dksX25_remove_0 9 rfl rfl)
theorem dX25_remove_12 : decode cX25_remove 12 = .ok (.aload_n 0, 1) := dk_42 (dk_at dksX25_remove_0 12 rfl rfl)
theorem dX25_remove_13 : decode cX25_remove 13 = .ok (.getfield 9, 3) := dk_180 0 9 (dk_at dksX25_remove_0 13 rfl rfl)
theorem dX25_remove_16 : decode cX25_remove 16 = .ok (.iload_n 3, 1) := dk_29 (dk_at dksX25_remove_0 16 rfl rfl)
theorem dX25_remove_17 : decode cX25_remove 17 = .ok (.iaload, 1) := dk_46 (dk_at dksX25_remove_0 17 rfl rfl)
theorem dX25_remove_18 : decode cX25_remove 18 = .ok (.iload_n 1, 1) := dk_27 (dk_at dksX25_remove_0 18 rfl rfl)
theorem dX25_remove_19 : decode cX25_remove 19 = .ok (.if_icmp .ne 24, 3) := dk_160 0 24 (dk_at dksX25_remove_0 19 rfl rfl)
theorem dX25_remove_22 : decode cX25_remove 22 = .ok (.iload_n 2, 1) := dk_28 (dk_at dksX25_remove_0 22 rfl rfl)
theorem dX25_remove_23 : decode cX25_remove 23 = .ok (.ifCond .lt 18, 3) := dk_155 0 18 (dk_at dksX25_remove_1 0 rfl rfl)
theorem dX25_remove_26 : decode cX25_remove 26 = .ok (.aload_n 0, 1) := dk_42 (dk_at dksX25_remove_1 3 rfl rfl)
theorem dX25_remove_27 : decode cX25_remove 27 = .ok (.getfield 15, 3) := dk_180 0 15 (dk_at dksX25_remove_1 4 rfl rfl)
theorem dX25_remove_30 : decode cX25_remove 30 = .ok (.iload_n 3, 1) := dk_29 (dk_at dksX25_remove_1 7 rfl rfl)
theorem dX25_remove_31 : decode cX25_remove 31 = .ok (.iaload, 1) := dk_46 (dk_at dksX25_remove_1 8 rfl rfl)
theorem dX25_remove_32 : decode cX25_remove 32 = .ok (.aload_n 0, 1) := dk_42 (dk_at dksX25_remove_1 9 rfl rfl)
theorem dX25_remove_33 : decode cX25_remove 33 = .ok (.getfield 15, 3) := dk_180 0 15 (dk_at dksX25_remove_1 10 rfl rfl)
theorem dX25_remove_36 : decode cX25_remove 36 = .ok (.iload_n 2, 1) := dk_28 (dk_at dksX25_remove_1 13 rfl rfl)
theorem dX25_remove_37 : decode cX25_remove 37 = .ok (.iaload, 1) := dk_46 (dk_at dksX25_remove_1 14 rfl rfl)
theorem dX25_remove_38 : decode cX25_remove 38 = .ok (.if_icmp .ge 5, 3) := dk_162 0 5 (dk_at dksX25_remove_1 15 rfl rfl)
theorem dX25_remove_41 : decode cX25_remove 41 = .ok (.iload_n 3, 1) := dk_29 (dk_at dksX25_remove_1 18 rfl rfl)
theorem dX25_remove_42 : decode cX25_remove 42 = .ok (.istore_n 2, 1) := dk_61 (dk_at dksX25_remove_1 19 rfl rfl)
theorem dX25_remove_43 : decode cX25_remove 43 = .ok (.iinc 3 1, 3) := dk_132 3 1 (dk_at dksX25_remove_1 20 rfl rfl)
theorem dX25_remove_46 : decode cX25_remove 46 = .ok (.goto (-42), 3) := dk_167 255 214 (dk_at dksX25_remove_2 0 rfl rfl)
theorem dX25_remove_49 : decode cX25_remove 49 = .ok (.iload_n 2, 1) := dk_28 (dk_at dksX25_remove_2 3 rfl rfl)
theorem dX25_remove_50 : decode cX25_remove 50 = .ok (.ifCond .ge 5, 3) := dk_156 0 5 (dk_at dksX25_remove_2 4 rfl rfl)
theorem dX25_remove_53 : decode cX25_remove 53 = .ok (.iconst 0, 1) := dk_3 (dk_at dksX25_remove_2 7 rfl rfl)
theorem dX25_remove_54 : decode cX25_remove 54 = .ok (.ireturn, 1) := dk_172 (dk_at dksX25_remove_2 8 rfl rfl)
theorem dX25_remove_55 : decode cX25_remove 55 = .ok (.aload_n 0, 1) := dk_42 (dk_at dksX25_remove_2 9 rfl rfl)
theorem dX25_remove_56 : decode cX25_remove 56 = .ok (.iload_n 2, 1) := dk_28 (dk_at dksX25_remove_2 10 rfl rfl)
theorem dX25_remove_57 : decode cX25_remove 57 = .ok (.invokevirtual 61, 3) := dk_182 0 61 (dk_at dksX25_remove_2 11 rfl rfl)
theorem dX25_remove_60 : decode cX25_remove 60 = .ok (.istore_n 3, 1) := dk_62 (dk_at dksX25_remove_2 14 rfl rfl)
theorem dX25_remove_61 : decode cX25_remove 61 = .ok (.iconst 1, 1) := dk_4 (dk_at dksX25_remove_2 15 rfl rfl)
theorem dX25_remove_62 : decode cX25_remove 62 = .ok (.ireturn, 1) := dk_172 (dk_at dksX25_remove_2 16 rfl rfl)
abbrev cX25_addAll : ByteArray := prog_11_method_12_code
def yX25_addAll : MethodName := ⟨RX25, "addAll", "(LLibraryDesk$Places;)J"⟩
def dkwX25_addAll_2 : List UInt8 := [28, 182, 0, 70, 182, 0, 55, 132, 2, 1, 167, 255, 236, 42, 180, 0, 18, 133, 173]
abbrev dktX25_addAll_2 : List UInt8 := dkwX25_addAll_2 ++ []
def dkwX25_addAll_1 : List UInt8 := [42, 180, 0, 18, 43, 182, 0, 65, 96, 182, 0, 52, 3, 61, 28, 43, 182, 0, 65, 162, 0, 18, 42, 43]
abbrev dktX25_addAll_1 : List UInt8 := dkwX25_addAll_1 ++ dktX25_addAll_2
def dkwX25_addAll_0 : List UInt8 := [42, 180, 0, 18, 43, 182, 0, 65, 96, 17, 7, 208, 163, 0, 7, 4, 167, 0, 4, 3, 184, 0, 48, 42]
abbrev dktX25_addAll_0 : List UInt8 := dkwX25_addAll_0 ++ dktX25_addAll_1
theorem dksX25_addAll_0 : cX25_addAll.data.toList.drop 0 = dktX25_addAll_0 := by decide +kernel
theorem dksX25_addAll_1 : cX25_addAll.data.toList.drop 24 = dktX25_addAll_1 := dk_seg dksX25_addAll_0 24 rfl rfl
theorem dksX25_addAll_2 : cX25_addAll.data.toList.drop 48 = dktX25_addAll_2 := dk_seg dksX25_addAll_1 24 rfl rfl
theorem dX25_addAll_0 : decode cX25_addAll 0 = .ok (.aload_n 0, 1) := dk_42 (dk_at dksX25_addAll_0 0 rfl rfl)
theorem dX25_addAll_1 : decode cX25_addAll 1 = .ok (.getfield 18, 3) := dk_180 0 18 (dk_at dksX25_addAll_0 1 rfl rfl)
theorem dX25_addAll_4 : decode cX25_addAll 4 = .ok (.aload_n 1, 1) := dk_43 (dk_at dksX25_addAll_0 4 rfl rfl)
theorem dX25_addAll_5 : decode cX25_addAll 5 = .ok (.invokevirtual 65, 3) := dk_182 0 65 (dk_at dksX25_addAll_0 5 rfl rfl)
theorem dX25_addAll_8 : decode cX25_addAll 8 = .ok (.iadd, 1) := dk_96 (dk_at dksX25_addAll_0 8 rfl rfl)
theorem dX25_addAll_9 : decode cX25_addAll 9 = .ok (.sipush 2000, 3) := dk_17 7 208 (dk_at dksX25_addAll_0 9 rfl rfl)
theorem dX25_addAll_12 : decode cX25_addAll 12 = .ok (.if_icmp .gt 7, 3) := dk_163 0 7 (dk_at dksX25_addAll_0 12 rfl rfl)
theorem dX25_addAll_15 : decode cX25_addAll 15 = .ok (.iconst 1, 1) := dk_4 (dk_at dksX25_addAll_0 15 rfl rfl)
theorem dX25_addAll_16 : decode cX25_addAll 16 = .ok (.goto 4, 3) := dk_167 0 4 (dk_at dksX25_addAll_0 16 rfl rfl)
theorem dX25_addAll_19 : decode cX25_addAll 19 = .ok (.iconst 0, 1) := dk_3 (dk_at dksX25_addAll_0 19 rfl rfl)
theorem dX25_addAll_20 : decode cX25_addAll 20 = .ok (.invokestatic 48, 3) := dk_184 0 48 (dk_at dksX25_addAll_0 20 rfl rfl)
theorem dX25_addAll_23 : decode cX25_addAll 23 = .ok (.aload_n 0, 1) := dk_42 (dk_at dksX25_addAll_0 23 rfl rfl)
theorem dX25_addAll_24 : decode cX25_addAll 24 = .ok (.aload_n 0, 1) := dk_42 (dk_at dksX25_addAll_1 0 rfl rfl)
theorem dX25_addAll_25 : decode cX25_addAll 25 = .ok (.getfield 18, 3) := dk_180 0 18 (dk_at dksX25_addAll_1 1 rfl rfl)
theorem dX25_addAll_28 : decode cX25_addAll 28 = .ok (.aload_n 1, 1) := dk_43 (dk_at dksX25_addAll_1 4 rfl rfl)
theorem dX25_addAll_29 : decode cX25_addAll 29 = .ok (.invokevirtual 65, 3) := dk_182 0 65 (dk_at dksX25_addAll_1 5 rfl rfl)
theorem dX25_addAll_32 : decode cX25_addAll 32 = .ok (.iadd, 1) := dk_96 (dk_at dksX25_addAll_1 8 rfl rfl)
theorem dX25_addAll_33 : decode cX25_addAll 33 = .ok (.invokevirtual 52, 3) := dk_182 0 52 (dk_at dksX25_addAll_1 9 rfl rfl)
theorem dX25_addAll_36 : decode cX25_addAll 36 = .ok (.iconst 0, 1) := dk_3 (dk_at dksX25_addAll_1 12 rfl rfl)
theorem dX25_addAll_37 : decode cX25_addAll 37 = .ok (.istore_n 2, 1) := dk_61 (dk_at dksX25_addAll_1 13 rfl rfl)
theorem dX25_addAll_38 : decode cX25_addAll 38 = .ok (.iload_n 2, 1) := dk_28 (dk_at dksX25_addAll_1 14 rfl rfl)
theorem dX25_addAll_39 : decode cX25_addAll 39 = .ok (.aload_n 1, 1) := dk_43 (dk_at dksX25_addAll_1 15 rfl rfl)
theorem dX25_addAll_40 : decode cX25_addAll 40 = .ok (.invokevirtual 65, 3) := dk_182 0 65 (dk_at dksX25_addAll_1 16 rfl rfl)
theorem dX25_addAll_43 : decode cX25_addAll 43 = .ok (.if_icmp .ge 18, 3) := dk_162 0 18 (dk_at dksX25_addAll_1 19 rfl rfl)
theorem dX25_addAll_46 : decode cX25_addAll 46 = .ok (.aload_n 0, 1) := dk_42 (dk_at dksX25_addAll_1 22 rfl rfl)
theorem dX25_addAll_47 : decode cX25_addAll 47 = .ok (.aload_n 1, 1) := dk_43 (dk_at dksX25_addAll_1 23 rfl rfl)
theorem dX25_addAll_48 : decode cX25_addAll 48 = .ok (.iload_n 2, 1) := dk_28 (dk_at dksX25_addAll_2 0 rfl rfl)
theorem dX25_addAll_49 : decode cX25_addAll 49 = .ok (.invokevirtual 70, 3) := dk_182 0 70 (dk_at dksX25_addAll_2 1 rfl rfl)
theorem dX25_addAll_52 : decode cX25_addAll 52 = .ok (.invokevirtual 55, 3) := dk_182 0 55 (dk_at dksX25_addAll_2 4 rfl rfl)
theorem dX25_addAll_55 : decode cX25_addAll 55 = .ok (.iinc 2 1, 3) := dk_132 2 1 (dk_at dksX25_addAll_2 7 rfl rfl)
theorem dX25_addAll_58 : decode cX25_addAll 58 = .ok (.goto (-20), 3) := dk_167 255 236 (dk_at dksX25_addAll_2 10 rfl rfl)
theorem dX25_addAll_61 : decode cX25_addAll 61 = .ok (.aload_n 0, 1) := dk_42 (dk_at dksX25_addAll_2 13 rfl rfl)
theorem dX25_addAll_62 : decode cX25_addAll 62 = .ok (.getfield 18, 3) := dk_180 0 18 (dk_at dksX25_addAll_2 14 rfl rfl)
theorem dX25_addAll_65 : decode cX25_addAll 65 = .ok (.i2l, 1) := dk_133 (dk_at dksX25_addAll_2 17 rfl rfl)
theorem dX25_addAll_66 : decode cX25_addAll 66 = .ok (.lreturn, 1) := dk_173 (dk_at dksX25_addAll_2 18 rfl rfl)
theorem q541 : (Jvm.Cond.initialized "LibraryDesk$HeapThing") ∈ lw_all := lw_g (lw_at lw_m1 34 rfl) rfl
theorem q1584 : (Jvm.Cond.instantiable "LibraryDesk$HeapThing" (8 : Nat)) ∈ lw_all := lw_g (lw_at lw_m5 117 rfl) rfl
theorem q1586 : (Jvm.Cond.instanceMethod ({ cls := "LibraryDesk$HeapThing", name := "<init>", desc := "()V" } : Jvm.MethodName)) ∈ lw_all := lw_g (lw_at lw_m5 119 rfl) rfl
theorem q1587 : (Jvm.Cond.code ({ cls := "LibraryDesk$HeapThing", name := "<init>", desc := "()V" } : Jvm.MethodName) prog_11_method_1_code (1 : Nat) (Option.none : Option Jvm.ClassFile.FieldType)) ∈ lw_all := lw_g (lw_at lw_m5 120 rfl) rfl
theorem q1588 : (Jvm.Cond.methodLinkNest "LibraryDesk$HeapThing" (3 : Nat) ({ cls := "LibraryDesk$Thing", name := "<init>", desc := "(I)V" } : Jvm.MethodName) "LibraryDesk") ∈ lw_tbl := lw_at lw_m5 121 rfl
theorem q1589 : (Jvm.Cond.fieldLink "LibraryDesk$HeapThing" (9 : Nat) "LibraryDesk$HeapThing" "value" "[I") ∈ lw_all := lw_g (lw_at lw_m5 122 rfl) rfl
theorem q1590 : (Jvm.Cond.fieldLink "LibraryDesk$HeapThing" (15 : Nat) "LibraryDesk$HeapThing" "came" "[I") ∈ lw_all := lw_g (lw_at lw_m5 123 rfl) rfl
theorem q1591 : (Jvm.Cond.fieldLink "LibraryDesk$HeapThing" (18 : Nat) "LibraryDesk$HeapThing" "size" "I") ∈ lw_all := lw_g (lw_at lw_m5 124 rfl) rfl
theorem q1592 : (Jvm.Cond.fieldLink "LibraryDesk$HeapThing" (22 : Nat) "LibraryDesk$HeapThing" "capacity" "I") ∈ lw_all := lw_g (lw_at lw_m5 125 rfl) rfl
theorem q1593 : (Jvm.Cond.fieldLink "LibraryDesk$HeapThing" (25 : Nat) "LibraryDesk$HeapThing" "orde\x72" "I") ∈ lw_all := lw_g (lw_at lw_m5 126 rfl) rfl
theorem q1594 : (Jvm.Cond.fieldLink "LibraryDesk$HeapThing" (28 : Nat) "LibraryDesk$HeapThing" "clock" "I") ∈ lw_all := lw_g (lw_at lw_m5 127 rfl) rfl
theorem q1595 : (Jvm.Cond.laysFinal "LibraryDesk$HeapThing" "LibraryDesk$HeapThing" "value" "[I") ∈ lw_all := lw_g (lw_at lw_m5 128 rfl) rfl
theorem q1596 : (Jvm.Cond.soleField "LibraryDesk$HeapThing" "value") ∈ lw_all := lw_g (lw_at lw_m5 129 rfl) rfl
theorem q1597 : (Jvm.Cond.laysFinal "LibraryDesk$HeapThing" "LibraryDesk$HeapThing" "came" "[I") ∈ lw_all := lw_g (lw_at lw_m5 130 rfl) rfl
theorem q1598 : (Jvm.Cond.soleField "LibraryDesk$HeapThing" "came") ∈ lw_all := lw_g (lw_at lw_m5 131 rfl) rfl
theorem q1599 : (Jvm.Cond.lays "LibraryDesk$HeapThing" "LibraryDesk$HeapThing" "size" "I") ∈ lw_all := lw_g (lw_at lw_m5 132 rfl) rfl
theorem q1600 : (Jvm.Cond.soleField "LibraryDesk$HeapThing" "size") ∈ lw_all := lw_g (lw_at lw_m5 133 rfl) rfl
theorem q1601 : (Jvm.Cond.lays "LibraryDesk$HeapThing" "LibraryDesk$HeapThing" "capacity" "I") ∈ lw_all := lw_g (lw_at lw_m5 134 rfl) rfl
theorem q1602 : (Jvm.Cond.soleField "LibraryDesk$HeapThing" "capacity") ∈ lw_all := lw_g (lw_at lw_m5 135 rfl) rfl
theorem q1603 : (Jvm.Cond.lays "LibraryDesk$HeapThing" "LibraryDesk$HeapThing" "orde\x72" "I") ∈ lw_all := lw_g (lw_at lw_m5 136 rfl) rfl
theorem q1604 : (Jvm.Cond.soleField "LibraryDesk$HeapThing" "orde\x72") ∈ lw_all := lw_g (lw_at lw_m5 137 rfl) rfl
theorem q1605 : (Jvm.Cond.lays "LibraryDesk$HeapThing" "LibraryDesk$HeapThing" "clock" "I") ∈ lw_all := lw_g (lw_at lw_m5 138 rfl) rfl
theorem q1606 : (Jvm.Cond.soleField "LibraryDesk$HeapThing" "clock") ∈ lw_all := lw_g (lw_at lw_m5 139 rfl) rfl
theorem q1607 : (Jvm.Cond.laysFinal "LibraryDesk$HeapThing" "LibraryDesk$Thing" "kind" "I") ∈ lw_all := lw_g (lw_at lw_m5 140 rfl) rfl
theorem q1608 : (Jvm.Cond.lays "LibraryDesk$HeapThing" "LibraryDesk$Thing" "used" "Z") ∈ lw_all := lw_g (lw_at lw_m5 141 rfl) rfl
theorem q1609 : (Jvm.Cond.superclass "LibraryDesk$HeapThing" "LibraryDesk$Thing") ∈ lw_all := lw_g (lw_at lw_m5 142 rfl) rfl
theorem q1909 : (Jvm.Cond.privateMethod ({ cls := "LibraryDesk$HeapThing", name := "begin", desc := "(II)V" } : Jvm.MethodName)) ∈ lw_tbl := lw_at lw_m6 202 rfl
theorem q1910 : (Jvm.Cond.instanceMethod ({ cls := "LibraryDesk$HeapThing", name := "begin", desc := "(II)V" } : Jvm.MethodName)) ∈ lw_all := lw_g (lw_at lw_m6 203 rfl) rfl
theorem q1911 : (Jvm.Cond.code ({ cls := "LibraryDesk$HeapThing", name := "begin", desc := "(II)V" } : Jvm.MethodName) prog_11_method_2_code (3 : Nat) (Option.none : Option Jvm.ClassFile.FieldType)) ∈ lw_all := lw_g (lw_at lw_m6 204 rfl) rfl
theorem q2904 : (Jvm.Cond.privateMethod ({ cls := "LibraryDesk$HeapThing", name := "call", desc := "(II)J" } : Jvm.MethodName)) ∈ lw_tbl := lw_at lw_m10 237 rfl
theorem q2905 : (Jvm.Cond.instanceMethod ({ cls := "LibraryDesk$HeapThing", name := "call", desc := "(II)J" } : Jvm.MethodName)) ∈ lw_all := lw_g (lw_at lw_m10 238 rfl) rfl
theorem q2906 : (Jvm.Cond.code ({ cls := "LibraryDesk$HeapThing", name := "call", desc := "(II)J" } : Jvm.MethodName) prog_11_method_13_code (4 : Nat) (Option.some Jvm.ClassFile.FieldType.long)) ∈ lw_all := lw_g (lw_at lw_m10 239 rfl) rfl
theorem q2907 : (Jvm.Cond.methodLink "LibraryDesk$HeapThing" (73 : Nat) ({ cls := "LibraryDesk$HeapThing", name := "offe\x72", desc := "(I)V" } : Jvm.MethodName)) ∈ lw_all := lw_g (lw_at lw_m11 0 rfl) rfl
theorem q2908 : (Jvm.Cond.privateMethod ({ cls := "LibraryDesk$HeapThing", name := "offe\x72", desc := "(I)V" } : Jvm.MethodName)) ∈ lw_tbl := lw_at lw_m11 1 rfl
theorem q2909 : (Jvm.Cond.instanceMethod ({ cls := "LibraryDesk$HeapThing", name := "offe\x72", desc := "(I)V" } : Jvm.MethodName)) ∈ lw_all := lw_g (lw_at lw_m11 2 rfl) rfl
theorem q2910 : (Jvm.Cond.code ({ cls := "LibraryDesk$HeapThing", name := "offe\x72", desc := "(I)V" } : Jvm.MethodName) prog_11_method_9_code (2 : Nat) (Option.none : Option Jvm.ClassFile.FieldType)) ∈ lw_all := lw_g (lw_at lw_m11 3 rfl) rfl
theorem q2911 : (Jvm.Cond.methodLinkNest "LibraryDesk$HeapThing" (48 : Nat) ({ cls := "LibraryDesk", name := "state", desc := "(Z)V" } : Jvm.MethodName) "LibraryDesk") ∈ lw_tbl := lw_at lw_m11 4 rfl
theorem q2912 : (Jvm.Cond.methodLink "LibraryDesk$HeapThing" (52 : Nat) ({ cls := "LibraryDesk$HeapThing", name := "due", desc := "(I)V" } : Jvm.MethodName)) ∈ lw_all := lw_g (lw_at lw_m11 5 rfl) rfl
theorem q2913 : (Jvm.Cond.privateMethod ({ cls := "LibraryDesk$HeapThing", name := "due", desc := "(I)V" } : Jvm.MethodName)) ∈ lw_tbl := lw_at lw_m11 6 rfl
theorem q2914 : (Jvm.Cond.instanceMethod ({ cls := "LibraryDesk$HeapThing", name := "due", desc := "(I)V" } : Jvm.MethodName)) ∈ lw_all := lw_g (lw_at lw_m11 7 rfl) rfl
theorem q2915 : (Jvm.Cond.code ({ cls := "LibraryDesk$HeapThing", name := "due", desc := "(I)V" } : Jvm.MethodName) prog_11_method_7_code (3 : Nat) (Option.none : Option Jvm.ClassFile.FieldType)) ∈ lw_all := lw_g (lw_at lw_m11 8 rfl) rfl
theorem q2916 : (Jvm.Cond.methodLink "LibraryDesk$HeapThing" (55 : Nat) ({ cls := "LibraryDesk$HeapThing", name := "add", desc := "(I)V" } : Jvm.MethodName)) ∈ lw_all := lw_g (lw_at lw_m11 9 rfl) rfl
theorem q2917 : (Jvm.Cond.privateMethod ({ cls := "LibraryDesk$HeapThing", name := "add", desc := "(I)V" } : Jvm.MethodName)) ∈ lw_tbl := lw_at lw_m11 10 rfl
theorem q2918 : (Jvm.Cond.instanceMethod ({ cls := "LibraryDesk$HeapThing", name := "add", desc := "(I)V" } : Jvm.MethodName)) ∈ lw_all := lw_g (lw_at lw_m11 11 rfl) rfl
theorem q2919 : (Jvm.Cond.code ({ cls := "LibraryDesk$HeapThing", name := "add", desc := "(I)V" } : Jvm.MethodName) prog_11_method_8_code (2 : Nat) (Option.none : Option Jvm.ClassFile.FieldType)) ∈ lw_all := lw_g (lw_at lw_m11 12 rfl) rfl
theorem q2920 : (Jvm.Cond.methodLink "LibraryDesk$HeapThing" (45 : Nat) ({ cls := "LibraryDesk$HeapThing", name := "up", desc := "(I)V" } : Jvm.MethodName)) ∈ lw_all := lw_g (lw_at lw_m11 13 rfl) rfl
theorem q2921 : (Jvm.Cond.privateMethod ({ cls := "LibraryDesk$HeapThing", name := "up", desc := "(I)V" } : Jvm.MethodName)) ∈ lw_tbl := lw_at lw_m11 14 rfl
theorem q2922 : (Jvm.Cond.instanceMethod ({ cls := "LibraryDesk$HeapThing", name := "up", desc := "(I)V" } : Jvm.MethodName)) ∈ lw_all := lw_g (lw_at lw_m11 15 rfl) rfl
theorem q2923 : (Jvm.Cond.code ({ cls := "LibraryDesk$HeapThing", name := "up", desc := "(I)V" } : Jvm.MethodName) prog_11_method_5_code (3 : Nat) (Option.none : Option Jvm.ClassFile.FieldType)) ∈ lw_all := lw_g (lw_at lw_m11 16 rfl) rfl
theorem q2924 : (Jvm.Cond.methodLink "LibraryDesk$HeapThing" (37 : Nat) ({ cls := "LibraryDesk$HeapThing", name := "isBefore", desc := "(II)Z" } : Jvm.MethodName)) ∈ lw_all := lw_g (lw_at lw_m11 17 rfl) rfl
theorem q2925 : (Jvm.Cond.privateMethod ({ cls := "LibraryDesk$HeapThing", name := "isBefore", desc := "(II)Z" } : Jvm.MethodName)) ∈ lw_tbl := lw_at lw_m11 18 rfl
theorem q2926 : (Jvm.Cond.instanceMethod ({ cls := "LibraryDesk$HeapThing", name := "isBefore", desc := "(II)Z" } : Jvm.MethodName)) ∈ lw_all := lw_g (lw_at lw_m11 19 rfl) rfl
theorem q2927 : (Jvm.Cond.code ({ cls := "LibraryDesk$HeapThing", name := "isBefore", desc := "(II)Z" } : Jvm.MethodName) prog_11_method_3_code (4 : Nat) (Option.some Jvm.ClassFile.FieldType.boolean)) ∈ lw_all := lw_g (lw_at lw_m11 20 rfl) rfl
theorem q2928 : (Jvm.Cond.methodLinkNest "LibraryDesk$HeapThing" (31 : Nat) ({ cls := "LibraryDesk$Orders", name := "compare", desc := "(III)I" } : Jvm.MethodName) "LibraryDesk") ∈ lw_tbl := lw_at lw_m11 21 rfl
theorem q2929 : (Jvm.Cond.methodLink "LibraryDesk$HeapThing" (41 : Nat) ({ cls := "LibraryDesk$HeapThing", name := "swap", desc := "(II)V" } : Jvm.MethodName)) ∈ lw_all := lw_g (lw_at lw_m11 22 rfl) rfl
theorem q2930 : (Jvm.Cond.privateMethod ({ cls := "LibraryDesk$HeapThing", name := "swap", desc := "(II)V" } : Jvm.MethodName)) ∈ lw_tbl := lw_at lw_m11 23 rfl
theorem q2931 : (Jvm.Cond.instanceMethod ({ cls := "LibraryDesk$HeapThing", name := "swap", desc := "(II)V" } : Jvm.MethodName)) ∈ lw_all := lw_g (lw_at lw_m11 24 rfl) rfl
theorem q2932 : (Jvm.Cond.code ({ cls := "LibraryDesk$HeapThing", name := "swap", desc := "(II)V" } : Jvm.MethodName) prog_11_method_4_code (5 : Nat) (Option.none : Option Jvm.ClassFile.FieldType)) ∈ lw_all := lw_g (lw_at lw_m11 25 rfl) rfl
theorem q2933 : (Jvm.Cond.methodLinkNest "LibraryDesk$HeapThing" (76 : Nat) ({ cls := "LibraryDesk", name := "there", desc := "(Z)V" } : Jvm.MethodName) "LibraryDesk") ∈ lw_tbl := lw_at lw_m11 26 rfl
theorem q2934 : (Jvm.Cond.methodLink "LibraryDesk$HeapThing" (61 : Nat) ({ cls := "LibraryDesk$HeapThing", name := "take", desc := "(I)I" } : Jvm.MethodName)) ∈ lw_all := lw_g (lw_at lw_m11 27 rfl) rfl
theorem q2935 : (Jvm.Cond.privateMethod ({ cls := "LibraryDesk$HeapThing", name := "take", desc := "(I)I" } : Jvm.MethodName)) ∈ lw_tbl := lw_at lw_m11 28 rfl
theorem q2936 : (Jvm.Cond.instanceMethod ({ cls := "LibraryDesk$HeapThing", name := "take", desc := "(I)I" } : Jvm.MethodName)) ∈ lw_all := lw_g (lw_at lw_m11 29 rfl) rfl
theorem q2937 : (Jvm.Cond.code ({ cls := "LibraryDesk$HeapThing", name := "take", desc := "(I)I" } : Jvm.MethodName) prog_11_method_10_code (3 : Nat) (Option.some Jvm.ClassFile.FieldType.int)) ∈ lw_all := lw_g (lw_at lw_m11 30 rfl) rfl
theorem q2938 : (Jvm.Cond.methodLink "LibraryDesk$HeapThing" (58 : Nat) ({ cls := "LibraryDesk$HeapThing", name := "down", desc := "(I)V" } : Jvm.MethodName)) ∈ lw_all := lw_g (lw_at lw_m11 31 rfl) rfl
theorem q2939 : (Jvm.Cond.privateMethod ({ cls := "LibraryDesk$HeapThing", name := "down", desc := "(I)V" } : Jvm.MethodName)) ∈ lw_tbl := lw_at lw_m11 32 rfl
theorem q2940 : (Jvm.Cond.instanceMethod ({ cls := "LibraryDesk$HeapThing", name := "down", desc := "(I)V" } : Jvm.MethodName)) ∈ lw_all := lw_g (lw_at lw_m11 33 rfl) rfl
theorem q2941 : (Jvm.Cond.code ({ cls := "LibraryDesk$HeapThing", name := "down", desc := "(I)V" } : Jvm.MethodName) prog_11_method_6_code (6 : Nat) (Option.none : Option Jvm.ClassFile.FieldType)) ∈ lw_all := lw_g (lw_at lw_m11 34 rfl) rfl
theorem q2942 : (Jvm.Cond.methodLink "LibraryDesk$HeapThing" (79 : Nat) ({ cls := "LibraryDesk$HeapThing", name := "remove", desc := "(I)I" } : Jvm.MethodName)) ∈ lw_all := lw_g (lw_at lw_m11 35 rfl) rfl
theorem q2943 : (Jvm.Cond.privateMethod ({ cls := "LibraryDesk$HeapThing", name := "remove", desc := "(I)I" } : Jvm.MethodName)) ∈ lw_tbl := lw_at lw_m11 36 rfl
theorem q2944 : (Jvm.Cond.instanceMethod ({ cls := "LibraryDesk$HeapThing", name := "remove", desc := "(I)I" } : Jvm.MethodName)) ∈ lw_all := lw_g (lw_at lw_m11 37 rfl) rfl
theorem q2945 : (Jvm.Cond.code ({ cls := "LibraryDesk$HeapThing", name := "remove", desc := "(I)I" } : Jvm.MethodName) prog_11_method_11_code (4 : Nat) (Option.some Jvm.ClassFile.FieldType.int)) ∈ lw_all := lw_g (lw_at lw_m11 38 rfl) rfl
theorem q2947 : (Jvm.Cond.privateMethod ({ cls := "LibraryDesk$HeapThing", name := "addAll", desc := "(LLibraryDesk$Places;)J" } : Jvm.MethodName)) ∈ lw_tbl := lw_at lw_m11 40 rfl
theorem q2948 : (Jvm.Cond.instanceMethod ({ cls := "LibraryDesk$HeapThing", name := "addAll", desc := "(LLibraryDesk$Places;)J" } : Jvm.MethodName)) ∈ lw_all := lw_g (lw_at lw_m11 41 rfl) rfl
theorem q2949 : (Jvm.Cond.code ({ cls := "LibraryDesk$HeapThing", name := "addAll", desc := "(LLibraryDesk$Places;)J" } : Jvm.MethodName) prog_11_method_12_code (3 : Nat) (Option.some Jvm.ClassFile.FieldType.long)) ∈ lw_all := lw_g (lw_at lw_m11 42 rfl) rfl
theorem q2950 : (Jvm.Cond.methodLink "LibraryDesk$HeapThing" (65 : Nat) ({ cls := "LibraryDesk$Places", name := "size", desc := "()I" } : Jvm.MethodName)) ∈ lw_all := lw_g (lw_at lw_m11 43 rfl) rfl
theorem q2951 : (Jvm.Cond.methodLink "LibraryDesk$HeapThing" (70 : Nat) ({ cls := "LibraryDesk$Places", name := "get", desc := "(I)I" } : Jvm.MethodName)) ∈ lw_all := lw_g (lw_at lw_m11 44 rfl) rfl
theorem q6086 : (Jvm.Cond.selects "LibraryDesk$HeapThing" ({ cls := "LibraryDesk$Thing", name := "kind", desc := "()I" } : Jvm.MethodName) ({ cls := "LibraryDesk$Thing", name := "kind", desc := "()I" } : Jvm.MethodName)) ∈ lw_all := lw_g (lw_at lw_m24 59 rfl) rfl
theorem q6133 : (Jvm.Cond.castable "LibraryDesk$HeapThing" "java/lang/Object") ∈ lw_tbl := lw_at lw_m24 106 rfl
theorem q6158 : (Jvm.Cond.castable "LibraryDesk$HeapThing" "LibraryDesk$Thing") ∈ lw_tbl := lw_at lw_m24 131 rfl
theorem in_X25 : ∀ w ∈ wsX250, w ∈ lw_all := lw_in wsX250 [1607, 1608, 1595, 1597, 1599, 1601, 1603, 1605] (by decide +kernel) (by decide +kernel)

/-! LibraryDesk$BitsThing -/
set_option maxRecDepth 100000
def RX26 : String := "LibraryDesk$BitsThing"
def TX26 : u_T := fun k => match k with
  | 0 => ("LibraryDesk$Thing", "kind", "I", true)
  | 1 => ("LibraryDesk$Thing", "used", "Z", false)
  | _ => ("LibraryDesk$BitsThing", "word", "[J", true)
def tyX26 : Nat → FieldType := fun k => match k with
  | 0 => .int
  | 1 => .boolean
  | _ => .array .long
abbrev wsX260 : List Cond := u_ws RX26 TX26 3
theorem nmX26 : ∀ a, a < 3 → ∀ b, b < 3 → a ≠ b → (TX26 a).2.1 ≠ (TX26 b).2.1 := by decide +kernel
theorem tyX26_ok : ∀ k, k < 3 → parseFieldDescriptor (TX26 k).2.2.1 = some (tyX26 k) := by decide +kernel
abbrev cX26_init : ByteArray := prog_3_method_1_code
def yX26_init : MethodName := ⟨RX26, "<init>", "()V"⟩
def dkwX26_init_0 : List UInt8 := [42, 16, 6, 183, 0, 3, 42, 16, 64, 188, 11, 181, 0, 9, 177]
abbrev dktX26_init_0 : List UInt8 := dkwX26_init_0 ++ []
theorem dksX26_init_0 : cX26_init.data.toList.drop 0 = dktX26_init_0 := by decide +kernel
theorem dX26_init_0 : decode cX26_init 0 = .ok (.aload_n 0, 1) := dk_42 (dk_at dksX26_init_0 0 rfl rfl)
theorem dX26_init_1 : decode cX26_init 1 = .ok (.bipush 6, 2) := dk_16 6 (dk_at dksX26_init_0 1 rfl rfl)
theorem dX26_init_3 : decode cX26_init 3 = .ok (.invokespecial 3, 3) := dk_183 0 3 (dk_at dksX26_init_0 3 rfl rfl)
theorem dX26_init_6 : decode cX26_init 6 = .ok (.aload_n 0, 1) := dk_42 (dk_at dksX26_init_0 6 rfl rfl)
theorem dX26_init_7 : decode cX26_init 7 = .ok (.bipush 64, 2) := dk_16 64 (dk_at dksX26_init_0 7 rfl rfl)
theorem dX26_init_9 : decode cX26_init 9 = .ok (.newarray .long, 2) := dk_188_11 (dk_at dksX26_init_0 9 rfl rfl)
theorem dX26_init_11 : decode cX26_init 11 = .ok (.putfield 9, 3) := dk_181 0 9 (dk_at dksX26_init_0 11 rfl rfl)
theorem dX26_init_14 : decode cX26_init 14 = .ok (.return_, 1) := dk_177 (dk_at dksX26_init_0 14 rfl rfl)
abbrev cX26_begin : ByteArray := prog_3_method_2_code
def yX26_begin : MethodName := ⟨RX26, "begin", "()V"⟩
def dkwX26_begin_0 : List UInt8 := [3, 60, 27, 16, 64, 162, 0, 16, 42, 180, 0, 9, 27, 9, 80, 132, 1, 1, 167, 255, 240, 177]
abbrev dktX26_begin_0 : List UInt8 := dkwX26_begin_0 ++ []
theorem dksX26_begin_0 : cX26_begin.data.toList.drop 0 = dktX26_begin_0 := by decide +kernel
theorem dX26_begin_0 : decode cX26_begin 0 = .ok (.iconst 0, 1) := dk_3 (dk_at dksX26_begin_0 0 rfl rfl)
theorem dX26_begin_1 : decode cX26_begin 1 = .ok (.istore_n 1, 1) := dk_60 (dk_at dksX26_begin_0 1 rfl rfl)
theorem dX26_begin_2 : decode cX26_begin 2 = .ok (.iload_n 1, 1) := dk_27 (dk_at dksX26_begin_0 2 rfl rfl)
theorem dX26_begin_3 : decode cX26_begin 3 = .ok (.bipush 64, 2) := dk_16 64 (dk_at dksX26_begin_0 3 rfl rfl)
theorem dX26_begin_5 : decode cX26_begin 5 = .ok (.if_icmp .ge 16, 3) := dk_162 0 16 (dk_at dksX26_begin_0 5 rfl rfl)
theorem dX26_begin_8 : decode cX26_begin 8 = .ok (.aload_n 0, 1) := dk_42 (dk_at dksX26_begin_0 8 rfl rfl)
theorem dX26_begin_9 : decode cX26_begin 9 = .ok (.getfield 9, 3) := dk_180 0 9 (dk_at dksX26_begin_0 9 rfl rfl)
theorem dX26_begin_12 : decode cX26_begin 12 = .ok (.iload_n 1, 1) := dk_27 (dk_at dksX26_begin_0 12 rfl rfl)
theorem dX26_begin_13 : decode cX26_begin 13 = .ok (.lconst 0, 1) := dk_9 (dk_at dksX26_begin_0 13 rfl rfl)
theorem dX26_begin_14 : decode cX26_begin 14 = .ok (.lastore, 1) := dk_80 (dk_at dksX26_begin_0 14 rfl rfl)
theorem dX26_begin_15 : decode cX26_begin 15 = .ok (.iinc 1 1, 3) := dk_132 1 1 (dk_at dksX26_begin_0 15 rfl rfl)
theorem dX26_begin_18 : decode cX26_begin 18 = .ok (.goto (-16), 3) := dk_167 255 240 (dk_at dksX26_begin_0 18 rfl rfl)
theorem dX26_begin_21 : decode cX26_begin 21 = .ok (.return_, 1) := dk_177 (dk_at dksX26_begin_0 21 rfl rfl)
abbrev cX26_isOfOne : ByteArray := prog_3_method_12_code
def yX26_isOfOne : MethodName := ⟨RX26, "isOfOne", "(I)Z"⟩
def dkwX26_isOfOne_0 : List UInt8 := [26, 5, 164, 0, 15, 26, 16, 6, 161, 0, 13, 26, 16, 10, 163, 0, 7, 4, 167, 0, 4, 3, 172]
abbrev dktX26_isOfOne_0 : List UInt8 := dkwX26_isOfOne_0 ++ []
theorem dksX26_isOfOne_0 : cX26_isOfOne.data.toList.drop 0 = dktX26_isOfOne_0 := by decide +kernel
theorem dX26_isOfOne_0 : decode cX26_isOfOne 0 = .ok (.iload_n 0, 1) := dk_26 (dk_at dksX26_isOfOne_0 0 rfl rfl)
theorem dX26_isOfOne_1 : decode cX26_isOfOne 1 = .ok (.iconst 2, 1) := dk_5 (dk_at dksX26_isOfOne_0 1 rfl rfl)
theorem dX26_isOfOne_2 : decode cX26_isOfOne 2 = .ok (.if_icmp .le 15, 3) := dk_164 0 15 (dk_at dksX26_isOfOne_0 2 rfl rfl)
theorem dX26_isOfOne_5 : decode cX26_isOfOne 5 = .ok (.iload_n 0, 1) := dk_26 (dk_at dksX26_isOfOne_0 5 rfl rfl)
theorem dX26_isOfOne_6 : decode cX26_isOfOne 6 = .ok (.bipush 6, 2) := dk_16 6 (dk_at dksX26_isOfOne_0 6 rfl rfl)
theorem dX26_isOfOne_8 : decode cX26_isOfOne 8 = .ok (.if_icmp .lt 13, 3) := dk_161 0 13 (dk_at dksX26_isOfOne_0 8 rfl rfl)
theorem dX26_isOfOne_11 : decode cX26_isOfOne 11 = .ok (.iload_n 0, 1) := dk_26 (dk_at dksX26_isOfOne_0 11 rfl rfl)
theorem dX26_isOfOne_12 : decode cX26_isOfOne 12 = .ok (.bipush 10, 2) := dk_16 10 (dk_at dksX26_isOfOne_0 12 rfl rfl)
theorem dX26_isOfOne_14 : decode cX26_isOfOne 14 = .ok (.if_icmp .gt 7, 3) := dk_163 0 7 (dk_at dksX26_isOfOne_0 14 rfl rfl)
theorem dX26_isOfOne_17 : decode cX26_isOfOne 17 = .ok (.iconst 1, 1) := dk_4 (dk_at dksX26_isOfOne_0 17 rfl rfl)
theorem dX26_isOfOne_18 : decode cX26_isOfOne 18 = .ok (.goto 4, 3) := dk_167 0 4 (dk_at dksX26_isOfOne_0 18 rfl rfl)
theorem dX26_isOfOne_21 : decode cX26_isOfOne 21 = .ok (.iconst 0, 1) := dk_3 (dk_at dksX26_isOfOne_0 21 rfl rfl)
theorem dX26_isOfOne_22 : decode cX26_isOfOne 22 = .ok (.ireturn, 1) := dk_172 (dk_at dksX26_isOfOne_0 22 rfl rfl)
abbrev cX26_call : ByteArray := prog_3_method_13_code
def yX26_call : MethodName := ⟨RX26, "call", "(III)J"⟩
def dkwX26_call_7 : List UInt8 := [10, 97, 173, 42, 180, 0, 9, 28, 47, 173]
abbrev dktX26_call_7 : List UInt8 := dkwX26_call_7 ++ []
def dkwX26_call_6 : List UInt8 := [167, 0, 4, 3, 182, 0, 48, 133, 173, 42, 182, 0, 33, 133, 173, 42, 17, 15, 255, 4, 182, 0, 48, 133]
abbrev dktX26_call_6 : List UInt8 := dkwX26_call_6 ++ dktX26_call_7
def dkwX26_call_5 : List UInt8 := [160, 0, 7, 4, 167, 0, 4, 3, 182, 0, 44, 133, 173, 42, 28, 27, 16, 9, 160, 0, 7, 4]
abbrev dktX26_call_5 : List UInt8 := dkwX26_call_5 ++ dktX26_call_6
def dkwX26_call_4 : List UInt8 := [182, 0, 40, 133, 173, 42, 28, 182, 0, 17, 153, 0, 7, 10, 167, 0, 4, 9, 173, 42, 28, 27, 16, 7]
abbrev dktX26_call_4 : List UInt8 := dkwX26_call_4 ++ dktX26_call_5
def dkwX26_call_3 : List UInt8 := [167, 0, 4, 3, 182, 0, 29, 21, 4, 153, 0, 7, 10, 167, 0, 4, 9, 173, 42, 27, 28, 29]
abbrev dktX26_call_3 : List UInt8 := dkwX26_call_3 ++ dktX26_call_4
def dkwX26_call_2 : List UInt8 := [42, 28, 182, 0, 17, 54, 4, 42, 28, 27, 153, 0, 13, 27, 5, 160, 0, 12, 21, 4, 154, 0, 7, 4]
abbrev dktX26_call_2 : List UInt8 := dkwX26_call_2 ++ dktX26_call_3
def dkwX26_call_1 : List UInt8 := [170, 0, 0, 0, 0, 0, 0, 187, 0, 0, 0, 0, 0, 0, 0, 12, 0, 0, 0, 68, 0, 0, 0, 68, 0, 0, 0, 68, 0, 0, 0, 110, 0, 0, 0, 110, 0, 0, 0, 110, 0, 0, 0, 119, 0, 0, 0, 133, 0, 0, 0, 133, 0, 0, 0, 151, 0, 0, 0, 151, 0, 0, 0, 169, 0, 0, 0, 175]
abbrev dktX26_call_1 : List UInt8 := dkwX26_call_1 ++ dktX26_call_2
def dkwX26_call_0 : List UInt8 := [27, 184, 0, 37, 153, 0, 15, 28, 155, 0, 7, 4, 167, 0, 4, 3, 184, 0, 25, 27]
abbrev dktX26_call_0 : List UInt8 := dkwX26_call_0 ++ dktX26_call_1
theorem dksX26_call_0 : cX26_call.data.toList.drop 0 = dktX26_call_0 := by decide +kernel
theorem dksX26_call_1 : cX26_call.data.toList.drop 20 = dktX26_call_1 := dk_seg dksX26_call_0 20 rfl rfl
theorem dksX26_call_2 : cX26_call.data.toList.drop 88 = dktX26_call_2 := dk_seg dksX26_call_1 68 rfl rfl
theorem dksX26_call_3 : cX26_call.data.toList.drop 112 = dktX26_call_3 := dk_seg dksX26_call_2 24 rfl rfl
theorem dksX26_call_4 : cX26_call.data.toList.drop 134 = dktX26_call_4 := dk_seg dksX26_call_3 22 rfl rfl
theorem dksX26_call_5 : cX26_call.data.toList.drop 158 = dktX26_call_5 := dk_seg dksX26_call_4 24 rfl rfl
theorem dksX26_call_6 : cX26_call.data.toList.drop 180 = dktX26_call_6 := dk_seg dksX26_call_5 22 rfl rfl
theorem dksX26_call_7 : cX26_call.data.toList.drop 204 = dktX26_call_7 := dk_seg dksX26_call_6 24 rfl rfl
theorem dX26_call_0 : decode cX26_call 0 = .ok (.iload_n 1, 1) := dk_27 (dk_at dksX26_call_0 0 rfl rfl)
theorem dX26_call_1 : decode cX26_call 1 = .ok (.invokestatic 37, 3) := dk_184 0 37 (dk_at dksX26_call_0 1 rfl rfl)
theorem dX26_call_4 : decode cX26_call 4 = .ok (.ifCond .eq 15, 3) := dk_153 0 15 (dk_at dksX26_call_0 4 rfl rfl)
theorem dX26_call_7 : decode cX26_call 7 = .ok (.iload_n 2, 1) := dk_28 (dk_at dksX26_call_0 7 rfl rfl)
theorem dX26_call_8 : decode cX26_call 8 = .ok (.ifCond .lt 7, 3) := dk_155 0 7 (dk_at dksX26_call_0 8 rfl rfl)
theorem dX26_call_11 : decode cX26_call 11 = .ok (.iconst 1, 1) := dk_4 (dk_at dksX26_call_0 11 rfl rfl)
theorem dX26_call_12 : decode cX26_call 12 = .ok (.goto 4, 3) := dk_167 0 4 (dk_at dksX26_call_0 12 rfl rfl)
theorem dX26_call_15 : decode cX26_call 15 = .ok (.iconst 0, 1) := dk_3 (dk_at dksX26_call_0 15 rfl rfl)
theorem dX26_call_16 : decode cX26_call 16 = .ok (.invokestatic 25, 3) := dk_184 0 25 (dk_at dksX26_call_0 16 rfl rfl)
theorem dX26_call_19 : decode cX26_call 19 = .ok (.iload_n 1, 1) := dk_27 (dk_at dksX26_call_0 19 rfl rfl)
theorem dX26_call_20 : decode cX26_call 20 = .ok (.tableswitch 187 0 12 #[68, 68, 68, 110, 110, 110, 119, 133, 133, 151, 151, 169, 175], 68) := by decide +kernel
theorem dX26_call_88 : decode cX26_call 88 = .ok (.aload_n 0, 1) := dk_42 (dk_at dksX26_call_2 0 rfl rfl)
theorem dX26_call_89 : decode cX26_call 89 = .ok (.iload_n 2, 1) := dk_28 (dk_at dksX26_call_2 1 rfl rfl)
theorem dX26_call_90 : decode cX26_call 90 = .ok (.invokevirtual 17, 3) := dk_182 0 17 (dk_at dksX26_call_2 2 rfl rfl)
theorem dX26_call_93 : decode cX26_call 93 = .ok (.istore 4, 2) := dk_54 4 (dk_at dksX26_call_2 5 rfl rfl)
theorem dX26_call_95 : decode cX26_call 95 = .ok (.aload_n 0, 1) := dk_42 (dk_at dksX26_call_2 7 rfl rfl)
theorem dX26_call_96 : decode cX26_call 96 = .ok (.iload_n 2, 1) := dk_28 (dk_at dksX26_call_2 8 rfl rfl)
theorem dX26_call_97 : decode cX26_call 97 = .ok (.iload_n 1, 1) := dk_27 (dk_at dksX26_call_2 9 rfl rfl)
theorem dX26_call_98 : decode cX26_call 98 = .ok (.ifCond .eq 13, 3) := dk_153 0 13 (dk_at dksX26_call_2 10 rfl rfl)
theorem dX26_call_101 : decode cX26_call 101 = .ok (.iload_n 1, 1) := dk_27 (dk_at dksX26_call_2 13 rfl rfl)
theorem dX26_call_102 : decode cX26_call 102 = .ok (.iconst 2, 1) := dk_5 (dk_at dksX26_call_2 14 rfl rfl)
theorem dX26_call_103 : decode cX26_call 103 = .ok (.if_icmp .ne 12, 3) := dk_160 0 12 (dk_at dksX26_call_2 15 rfl rfl)
theorem dX26_call_106 : decode cX26_call 106 = .ok (.iload 4, 2) := dk_21 4 (dk_at dksX26_call_2 18 rfl rfl)
theorem dX26_call_108 : decode cX26_call 108 = .ok (.ifCond .ne 7, 3) := dk_154 0 7 (dk_at dksX26_call_2 20 rfl rfl)
theorem dX26_call_111 : decode cX26_call 111 = .ok (.iconst 1, 1) := dk_4 (dk_at dksX26_call_2 23 rfl rfl)
theorem dX26_call_112 : decode cX26_call 112 = .ok (.goto 4, 3) := dk_167 0 4 (dk_at dksX26_call_3 0 rfl rfl)
theorem dX26_call_115 : decode cX26_call 115 = .ok (.iconst 0, 1) := dk_3 (dk_at dksX26_call_3 3 rfl rfl)
theorem dX26_call_116 : decode cX26_call 116 = .ok (.invokevirtual 29, 3) := dk_182 0 29 (dk_at dksX26_call_3 4 rfl rfl)
theorem dX26_call_119 : decode cX26_call 119 = .ok (.iload 4, 2) := dk_21 4 (dk_at dksX26_call_3 7 rfl rfl)
theorem dX26_call_121 : decode cX26_call 121 = .ok (.ifCond .eq 7, 3) := dk_153 0 7 (dk_at dksX26_call_3 9 rfl rfl)
theorem dX26_call_124 : decode cX26_call 124 = .ok (.lconst 1, 1) := dk_10 (dk_at dksX26_call_3 12 rfl rfl)
theorem dX26_call_125 : decode cX26_call 125 = .ok (.goto 4, 3) := dk_167 0 4 (dk_at dksX26_call_3 13 rfl rfl)
theorem dX26_call_128 : decode cX26_call 128 = .ok (.lconst 0, 1) := dk_9 (dk_at dksX26_call_3 16 rfl rfl)
theorem dX26_call_129 : decode cX26_call 129 = .ok (.lreturn, 1) := dk_173 (dk_at dksX26_call_3 17 rfl rfl)
theorem dX26_call_130 : decode cX26_call 130 = .ok (.aload_n 0, 1) := dk_42 (dk_at dksX26_call_3 18 rfl rfl)
theorem dX26_call_131 : decode cX26_call 131 = .ok (.iload_n 1, 1) := dk_27 (dk_at dksX26_call_3 19 rfl rfl)
theorem dX26_call_132 : decode cX26_call 132 = .ok (.iload_n 2, 1) := dk_28 (dk_at dksX26_call_3 20 rfl rfl)
theorem dX26_call_133 : decode cX26_call 133 = .ok (.iload_n 3, 1) := dk_29 (dk_at dksX26_call_3 21 rfl rfl)
theorem dX26_call_134 : decode cX26_call 134 = .ok (.invokevirtual 40, 3) := dk_182 0 40 (dk_at dksX26_call_4 0 rfl rfl)
theorem dX26_call_137 : decode cX26_call 137 = .ok (.i2l, 1) := dk_133 (dk_at dksX26_call_4 3 rfl rfl)
theorem dX26_call_138 : decode cX26_call 138 = .ok (.lreturn, 1) := dk_173 (dk_at dksX26_call_4 4 rfl rfl)
theorem dX26_call_139 : decode cX26_call 139 = .ok (.aload_n 0, 1) := dk_42 (dk_at dksX26_call_4 5 rfl rfl)
theorem dX26_call_140 : decode cX26_call 140 = .ok (.iload_n 2, 1) := dk_28 (dk_at dksX26_call_4 6 rfl rfl)
theorem dX26_call_141 : decode cX26_call 141 = .ok (.invokevirtual 17, 3) := dk_182 0 17 (dk_at dksX26_call_4 7 rfl rfl)
theorem dX26_call_144 : decode cX26_call 144 = .ok (.ifCond .eq 7, 3) := dk_153 0 7 (dk_at dksX26_call_4 10 rfl rfl)
theorem dX26_call_147 : decode cX26_call 147 = .ok (.lconst 1, 1) := dk_10 (dk_at dksX26_call_4 13 rfl rfl)
theorem dX26_call_148 : decode cX26_call 148 = .ok (.goto 4, 3) := dk_167 0 4 (dk_at dksX26_call_4 14 rfl rfl)
theorem dX26_call_151 : decode cX26_call 151 = .ok (.lconst 0, 1) := dk_9 (dk_at dksX26_call_4 17 rfl rfl)
theorem dX26_call_152 : decode cX26_call 152 = .ok (.lreturn, 1) := dk_173 (dk_at dksX26_call_4 18 rfl rfl)
theorem dX26_call_153 : decode cX26_call 153 = .ok (.aload_n 0, 1) := dk_42 (dk_at dksX26_call_4 19 rfl rfl)
theorem dX26_call_154 : decode cX26_call 154 = .ok (.iload_n 2, 1) := dk_28 (dk_at dksX26_call_4 20 rfl rfl)
theorem dX26_call_155 : decode cX26_call 155 = .ok (.iload_n 1, 1) := dk_27 (dk_at dksX26_call_4 21 rfl rfl)
theorem dX26_call_156 : decode cX26_call 156 = .ok (.bipush 7, 2) := dk_16 7 (dk_at dksX26_call_4 22 rfl rfl)
theorem dX26_call_158 : decode cX26_call 158 = .ok (.if_icmp .ne 7, 3) := dk_160 0 7 (dk_at dksX26_call_5 0 rfl rfl)
theorem dX26_call_161 : decode cX26_call 161 = .ok (.iconst 1, 1) := dk_4 (dk_at dksX26_call_5 3 rfl rfl)
theorem dX26_call_162 : decode cX26_call 162 = .ok (.goto 4, 3) := dk_167 0 4 (dk_at dksX26_call_5 4 rfl rfl)
theorem dX26_call_165 : decode cX26_call 165 = .ok (.iconst 0, 1) := dk_3 (dk_at dksX26_call_5 7 rfl rfl)
theorem dX26_call_166 : decode cX26_call 166 = .ok (.invokevirtual 44, 3) := dk_182 0 44 (dk_at dksX26_call_5 8 rfl rfl)
theorem dX26_call_169 : decode cX26_call 169 = .ok (.i2l, 1) := dk_133 (dk_at dksX26_call_5 11 rfl rfl)
theorem dX26_call_170 : decode cX26_call 170 = .ok (.lreturn, 1) := dk_173 (dk_at dksX26_call_5 12 rfl rfl)
theorem dX26_call_171 : decode cX26_call 171 = .ok (.aload_n 0, 1) := dk_42 (dk_at dksX26_call_5 13 rfl rfl)
theorem dX26_call_172 : decode cX26_call 172 = .ok (.iload_n 2, 1) := dk_28 (dk_at dksX26_call_5 14 rfl rfl)
theorem dX26_call_173 : decode cX26_call 173 = .ok (.iload_n 1, 1) := dk_27 (dk_at dksX26_call_5 15 rfl rfl)
theorem dX26_call_174 : decode cX26_call 174 = .ok (.bipush 9, 2) := dk_16 9 (dk_at dksX26_call_5 16 rfl rfl)
theorem dX26_call_176 : decode cX26_call 176 = .ok (.if_icmp .ne 7, 3) := dk_160 0 7 (dk_at dksX26_call_5 18 rfl rfl)
theorem dX26_call_179 : decode cX26_call 179 = .ok (.iconst 1, 1) := dk_4 (dk_at dksX26_call_5 21 rfl rfl)
theorem dX26_call_180 : decode cX26_call 180 = .ok (.goto 4, 3) := dk_167 0 4 (dk_at dksX26_call_6 0 rfl rfl)
theorem dX26_call_183 : decode cX26_call 183 = .ok (.iconst 0, 1) := dk_3 (dk_at dksX26_call_6 3 rfl rfl)
theorem dX26_call_184 : decode cX26_call 184 = .ok (.invokevirtual 48, 3) := dk_182 0 48 (dk_at dksX26_call_6 4 rfl rfl)
theorem dX26_call_187 : decode cX26_call 187 = .ok (.i2l, 1) := dk_133 (dk_at dksX26_call_6 7 rfl rfl)
theorem dX26_call_188 : decode cX26_call 188 = .ok (.lreturn, 1) := dk_173 (dk_at dksX26_call_6 8 rfl rfl)
theorem dX26_call_189 : decode cX26_call 189 = .ok (.aload_n 0, 1) := dk_42 (dk_at dksX26_call_6 9 rfl rfl)
theorem dX26_call_190 : decode cX26_call 190 = .ok (.invokevirtual 33, 3) := dk_182 0 33 (dk_at dksX26_call_6 10 rfl rfl)
theorem dX26_call_193 : decode cX26_call 193 = .ok (.i2l, 1) := dk_133 (dk_at dksX26_call_6 13 rfl rfl)
theorem dX26_call_194 : decode cX26_call 194 = .ok (.lreturn, 1) := dk_173 (dk_at dksX26_call_6 14 rfl rfl)
theorem dX26_call_195 : decode cX26_call 195 = .ok (.aload_n 0, 1) := dk_42 (dk_at dksX26_call_6 15 rfl rfl)
theorem dX26_call_196 : decode cX26_call 196 = .ok (.sipush 4095, 3) := dk_17 15 255 (dk_at dksX26_call_6 16 rfl rfl)
theorem dX26_call_199 : decode cX26_call 199 = .ok (.iconst 1, 1) := dk_4 (dk_at dksX26_call_6 19 rfl rfl)
theorem dX26_call_200 : decode cX26_call 200 = .ok (.invokevirtual 48, 3) := dk_182 0 48 (dk_at dksX26_call_6 20 rfl rfl)
theorem dX26_call_203 : decode cX26_call 203 = .ok (.i2l, 1) := dk_133 (dk_at dksX26_call_6 23 rfl rfl)
theorem dX26_call_204 : decode cX26_call 204 = .ok (.lconst 1, 1) := dk_10 (dk_at dksX26_call_7 0 rfl rfl)
theorem dX26_call_205 : decode cX26_call 205 = .ok (.ladd, 1) := dk_97 (dk_at dksX26_call_7 1 rfl rfl)
theorem dX26_call_206 : decode cX26_call 206 = .ok (.lreturn, 1) := dk_173 (dk_at dksX26_call_7 2 rfl rfl)
theorem dX26_call_207 : decode cX26_call 207 = .ok (.aload_n 0, 1) := dk_42 (dk_at dksX26_call_7 3 rfl rfl)
theorem dX26_call_208 : decode cX26_call 208 = .ok (.getfield 9, 3) := dk_180 0 9 (dk_at dksX26_call_7 4 rfl rfl)
theorem dX26_call_211 : decode cX26_call 211 = .ok (.iload_n 2, 1) := dk_28 (dk_at dksX26_call_7 7 rfl rfl)
theorem dX26_call_212 : decode cX26_call 212 = .ok (.laload, 1) := dk_47 (dk_at dksX26_call_7 8 rfl rfl)
theorem dX26_call_213 : decode cX26_call 213 = .ok (.lreturn, 1) := dk_173 (dk_at dksX26_call_7 9 rfl rfl)
abbrev cX26_has : ByteArray := prog_3_method_3_code
def yX26_has : MethodName := ⟨RX26, "has", "(I)Z"⟩
def dkwX26_has_1 : List UInt8 := [167, 0, 4, 3, 172]
abbrev dktX26_has_1 : List UInt8 := dkwX26_has_1 ++ []
def dkwX26_has_0 : List UInt8 := [42, 180, 0, 9, 27, 16, 6, 122, 47, 27, 16, 63, 126, 123, 10, 127, 9, 148, 153, 0, 7, 4]
abbrev dktX26_has_0 : List UInt8 := dkwX26_has_0 ++ dktX26_has_1
theorem dksX26_has_0 : cX26_has.data.toList.drop 0 = dktX26_has_0 := by decide +kernel
theorem dksX26_has_1 : cX26_has.data.toList.drop 22 = dktX26_has_1 := dk_seg dksX26_has_0 22 rfl rfl
theorem dX26_has_0 : decode cX26_has 0 = .ok (.aload_n 0, 1) := dk_42 (dk_at dksX26_has_0 0 rfl rfl)
theorem dX26_has_1 : decode cX26_has 1 = .ok (.getfield 9, 3) := dk_180 0 9 (dk_at dksX26_has_0 1 rfl rfl)
theorem dX26_has_4 : decode cX26_has 4 = .ok (.iload_n 1, 1) := dk_27 (dk_at dksX26_has_0 4 rfl rfl)
theorem dX26_has_5 : decode cX26_has 5 = .ok (.bipush 6, 2) := dk_16 6 (dk_at dksX26_has_0 5 rfl rfl)
theorem dX26_has_7 : decode cX26_has 7 = .ok (.ishr, 1) := dk_122 (dk_at dksX26_has_0 7 rfl rfl)
theorem dX26_has_8 : decode cX26_has 8 = .ok (.laload, 1) := dk_47 (dk_at dksX26_has_0 8 rfl rfl)
theorem dX26_has_9 : decode cX26_has 9 = .ok (.iload_n 1, 1) := dk_27 (dk_at dksX26_has_0 9 rfl rfl)
theorem dX26_has_10 : decode cX26_has 10 = .ok (.bipush 63, 2) := dk_16 63 (dk_at dksX26_has_0 10 rfl rfl)
theorem dX26_has_12 : decode cX26_has 12 = .ok (.iand, 1) := dk_126 (dk_at dksX26_has_0 12 rfl rfl)
theorem dX26_has_13 : decode cX26_has 13 = .ok (.lshr, 1) := dk_123 (dk_at dksX26_has_0 13 rfl rfl)
theorem dX26_has_14 : decode cX26_has 14 = .ok (.lconst 1, 1) := dk_10 (dk_at dksX26_has_0 14 rfl rfl)
theorem dX26_has_15 : decode cX26_has 15 = .ok (.land, 1) := dk_127 (dk_at dksX26_has_0 15 rfl rfl)
theorem dX26_has_16 : decode cX26_has 16 = .ok (.lconst 0, 1) := dk_9 (dk_at dksX26_has_0 16 rfl rfl)
theorem dX26_has_17 : decode cX26_has 17 = .ok (.lcmp, 1) := dk_148 (dk_at dksX26_has_0 17 rfl rfl)
theorem dX26_has_18 : decode cX26_has 18 = .ok (.ifCond .eq 7, 3) := dk_153 0 7 (dk_at dksX26_has_0 18 rfl rfl)
theorem dX26_has_21 : decode cX26_has 21 = .ok (.iconst 1, 1) := dk_4 (dk_at dksX26_has_0 21 rfl rfl)
theorem dX26_has_22 : decode cX26_has 22 = .ok (.goto 4, 3) := dk_167 0 4 (dk_at dksX26_has_1 0 rfl rfl)
theorem dX26_has_25 : decode cX26_has 25 = .ok (.iconst 0, 1) := dk_3 (dk_at dksX26_has_1 3 rfl rfl)
theorem dX26_has_26 : decode cX26_has 26 = .ok (.ireturn, 1) := dk_172 (dk_at dksX26_has_1 4 rfl rfl)
abbrev cX26_put : ByteArray := prog_3_method_4_code
def yX26_put : MethodName := ⟨RX26, "put", "(IZ)V"⟩
def dkwX26_put_2 : List UInt8 := [80, 177]
abbrev dktX26_put_2 : List UInt8 := dkwX26_put_2 ++ []
def dkwX26_put_1 : List UInt8 := [167, 0, 25, 42, 180, 0, 9, 27, 16, 6, 122, 92, 47, 10, 27, 16, 63, 126, 121, 20, 0, 15, 131, 127]
abbrev dktX26_put_1 : List UInt8 := dkwX26_put_1 ++ dktX26_put_2
def dkwX26_put_0 : List UInt8 := [28, 153, 0, 24, 42, 180, 0, 9, 27, 16, 6, 122, 92, 47, 10, 27, 16, 63, 126, 121, 129, 80]
abbrev dktX26_put_0 : List UInt8 := dkwX26_put_0 ++ dktX26_put_1
theorem dksX26_put_0 : cX26_put.data.toList.drop 0 = dktX26_put_0 := by decide +kernel
theorem dksX26_put_1 : cX26_put.data.toList.drop 22 = dktX26_put_1 := dk_seg dksX26_put_0 22 rfl rfl
theorem dksX26_put_2 : cX26_put.data.toList.drop 46 = dktX26_put_2 := dk_seg dksX26_put_1 24 rfl rfl
theorem dX26_put_0 : decode cX26_put 0 = .ok (.iload_n 2, 1) := dk_28 (dk_at dksX26_put_0 0 rfl rfl)
theorem dX26_put_1 : decode cX26_put 1 = .ok (.ifCond .eq 24, 3) := dk_153 0 24 (dk_at dksX26_put_0 1 rfl rfl)
theorem dX26_put_4 : decode cX26_put 4 = .ok (.aload_n 0, 1) := dk_42 (dk_at dksX26_put_0 4 rfl rfl)
theorem dX26_put_5 : decode cX26_put 5 = .ok (.getfield 9, 3) := dk_180 0 9 (dk_at dksX26_put_0 5 rfl rfl)
theorem dX26_put_8 : decode cX26_put 8 = .ok (.iload_n 1, 1) := dk_27 (dk_at dksX26_put_0 8 rfl rfl)
theorem dX26_put_9 : decode cX26_put 9 = .ok (.bipush 6, 2) := dk_16 6 (dk_at dksX26_put_0 9 rfl rfl)
theorem dX26_put_11 : decode cX26_put 11 = .ok (.ishr, 1) := dk_122 (dk_at dksX26_put_0 11 rfl rfl)
theorem dX26_put_12 : decode cX26_put 12 = .ok (.dup2, 1) := dk_92 (dk_at dksX26_put_0 12 rfl rfl)
theorem dX26_put_13 : decode cX26_put 13 = .ok (.laload, 1) := dk_47 (dk_at dksX26_put_0 13 rfl rfl)
theorem dX26_put_14 : decode cX26_put 14 = .ok (.lconst 1, 1) := dk_10 (dk_at dksX26_put_0 14 rfl rfl)
theorem dX26_put_15 : decode cX26_put 15 = .ok (.iload_n 1, 1) := dk_27 (dk_at dksX26_put_0 15 rfl rfl)
theorem dX26_put_16 : decode cX26_put 16 = .ok (.bipush 63, 2) := dk_16 63 (dk_at dksX26_put_0 16 rfl rfl)
theorem dX26_put_18 : decode cX26_put 18 = .ok (.iand, 1) := dk_126 (dk_at dksX26_put_0 18 rfl rfl)
theorem dX26_put_19 : decode cX26_put 19 = .ok (.lshl, 1) := dk_121 (dk_at dksX26_put_0 19 rfl rfl)
theorem dX26_put_20 : decode cX26_put 20 = .ok (.lor, 1) := dk_129 (dk_at dksX26_put_0 20 rfl rfl)
theorem dX26_put_21 : decode cX26_put 21 = .ok (.lastore, 1) := dk_80 (dk_at dksX26_put_0 21 rfl rfl)
theorem dX26_put_22 : decode cX26_put 22 = .ok (.goto 25, 3) := dk_167 0 25 (dk_at dksX26_put_1 0 rfl rfl)
theorem dX26_put_25 : decode cX26_put 25 = .ok (.aload_n 0, 1) := dk_42 (dk_at dksX26_put_1 3 rfl rfl)
theorem dX26_put_26 : decode cX26_put 26 = .ok (.getfield 9, 3) := dk_180 0 9 (dk_at dksX26_put_1 4 rfl rfl)
theorem dX26_put_29 : decode cX26_put 29 = .ok (.iload_n 1, 1) := dk_27 (dk_at dksX26_put_1 7 rfl rfl)
theorem dX26_put_30 : decode cX26_put 30 = .ok (.bipush 6, 2) := dk_16 6 (dk_at dksX26_put_1 8 rfl rfl)
theorem dX26_put_32 : decode cX26_put 32 = .ok (.ishr, 1) := dk_122 (dk_at dksX26_put_1 10 rfl rfl)
theorem dX26_put_33 : decode cX26_put 33 = .ok (.dup2, 1) := dk_92 (dk_at dksX26_put_1 11 rfl rfl)
theorem dX26_put_34 : decode cX26_put 34 = .ok (.laload, 1) := dk_47 (dk_at dksX26_put_1 12 rfl rfl)
theorem dX26_put_35 : decode cX26_put 35 = .ok (.lconst 1, 1) := dk_10 (dk_at dksX26_put_1 13 rfl rfl)
theorem dX26_put_36 : decode cX26_put 36 = .ok (.iload_n 1, 1) := dk_27 (dk_at dksX26_put_1 14 rfl rfl)
theorem dX26_put_37 : decode cX26_put 37 = .ok (.bipush 63, 2) := dk_16 63 (dk_at dksX26_put_1 15 rfl rfl)
theorem dX26_put_39 : decode cX26_put 39 = .ok (.iand, 1) := dk_126 (dk_at dksX26_put_1 17 rfl rfl)
theorem dX26_put_40 : decode cX26_put 40 = .ok (.lshl, 1) := dk_121 (dk_at dksX26_put_1 18 rfl rfl)
theorem dX26_put_41 : decode cX26_put 41 = .ok (.ldc2_w 15, 3) := dk_20 0 15 (dk_at dksX26_put_1 19 rfl rfl)
theorem dX26_put_44 : decode cX26_put 44 = .ok (.lxor, 1) := dk_131 (dk_at dksX26_put_1 22 rfl rfl)
theorem dX26_put_45 : decode cX26_put 45 = .ok (.land, 1) := dk_127 (dk_at dksX26_put_1 23 rfl rfl)
theorem dX26_put_46 : decode cX26_put 46 = .ok (.lastore, 1) := dk_80 (dk_at dksX26_put_2 0 rfl rfl)
theorem dX26_put_47 : decode cX26_put 47 = .ok (.return_, 1) := dk_177 (dk_at dksX26_put_2 1 rfl rfl)
abbrev cX26_range : ByteArray := prog_3_method_9_code
def yX26_range : MethodName := ⟨RX26, "range", "(III)I"⟩
def dkwX26_range_3 : List UInt8 := [167, 255, 217, 42, 182, 0, 33, 172]
abbrev dktX26_range_3 : List UInt8 := dkwX26_range_3 ++ []
def dkwX26_range_2 : List UInt8 := [160, 0, 16, 42, 21, 4, 182, 0, 17, 154, 0, 7, 4, 167, 0, 4, 3, 182, 0, 29, 132, 4, 1]
abbrev dktX26_range_2 : List UInt8 := dkwX26_range_2 ++ dktX26_range_3
def dkwX26_range_1 : List UInt8 := [184, 0, 25, 28, 54, 4, 21, 4, 29, 162, 0, 39, 42, 21, 4, 27, 6, 159, 0, 17, 27, 8]
abbrev dktX26_range_1 : List UInt8 := dkwX26_range_1 ++ dktX26_range_2
def dkwX26_range_0 : List UInt8 := [3, 28, 163, 0, 19, 28, 29, 163, 0, 14, 29, 17, 16, 0, 163, 0, 7, 4, 167, 0, 4, 3]
abbrev dktX26_range_0 : List UInt8 := dkwX26_range_0 ++ dktX26_range_1
theorem dksX26_range_0 : cX26_range.data.toList.drop 0 = dktX26_range_0 := by decide +kernel
theorem dksX26_range_1 : cX26_range.data.toList.drop 22 = dktX26_range_1 := dk_seg dksX26_range_0 22 rfl rfl
theorem dksX26_range_2 : cX26_range.data.toList.drop 44 = dktX26_range_2 := dk_seg dksX26_range_1 22 rfl rfl
theorem dksX26_range_3 : cX26_range.data.toList.drop 67 = dktX26_range_3 := dk_seg dksX26_range_2 23 rfl rfl
theorem dX26_range_0 : decode cX26_range 0 = .ok (.iconst 0, 1) := dk_3 (dk_at dksX26_range_0 0 rfl rfl)
theorem dX26_range_1 : decode cX26_range 1 = .ok (.iload_n 2, 1) := dk_28 (dk_at dksX26_range_0 1 rfl rfl)
theorem dX26_range_2 : decode cX26_range 2 = .ok (.if_icmp .gt 19, 3) := dk_163 0 19 (dk_at dksX26_range_0 2 rfl rfl)
theorem dX26_range_5 : decode cX26_range 5 = .ok (.iload_n 2, 1) := dk_28 (dk_at dksX26_range_0 5 rfl rfl)
theorem dX26_range_6 : decode cX26_range 6 = .ok (.iload_n 3, 1) := dk_29 (dk_at dksX26_range_0 6 rfl rfl)
theorem dX26_range_7 : decode cX26_range 7 = .ok (.if_icmp .gt 14, 3) := dk_163 0 14 (dk_at dksX26_range_0 7 rfl rfl)
theorem dX26_range_10 : decode cX26_range 10 = .ok (.iload_n 3, 1) := dk_29 (dk_at dksX26_range_0 10 rfl rfl)
theorem dX26_range_11 : decode cX26_range 11 = .ok (.sipush 4096, 3) := dk_17 16 0 (dk_at dksX26_range_0 11 rfl rfl)
theorem dX26_range_14 : decode cX26_range 14 = .ok (.if_icmp .gt 7, 3) := dk_163 0 7 (dk_at dksX26_range_0 14 rfl rfl)
theorem dX26_range_17 : decode cX26_range 17 = .ok (.iconst 1, 1) := dk_4 (dk_at dksX26_range_0 17 rfl rfl)
theorem dX26_range_18 : decode cX26_range 18 = .ok (.goto 4, 3) := dk_167 0 4 (dk_at dksX26_range_0 18 rfl rfl)
theorem dX26_range_21 : decode cX26_range 21 = .ok (.iconst 0, 1) := dk_3 (dk_at dksX26_range_0 21 rfl rfl)
theorem dX26_range_22 : decode cX26_range 22 = .ok (.invokestatic 25, 3) := dk_184 0 25 (dk_at dksX26_range_1 0 rfl rfl)
theorem dX26_range_25 : decode cX26_range 25 = .ok (.iload_n 2, 1) := dk_28 (dk_at dksX26_range_1 3 rfl rfl)
theorem dX26_range_26 : decode cX26_range 26 = .ok (.istore 4, 2) := dk_54 4 (dk_at dksX26_range_1 4 rfl rfl)
theorem dX26_range_28 : decode cX26_range 28 = .ok (.iload 4, 2) := dk_21 4 (dk_at dksX26_range_1 6 rfl rfl)
theorem dX26_range_30 : decode cX26_range 30 = .ok (.iload_n 3, 1) := dk_29 (dk_at dksX26_range_1 8 rfl rfl)
theorem dX26_range_31 : decode cX26_range 31 = .ok (.if_icmp .ge 39, 3) := dk_162 0 39 (dk_at dksX26_range_1 9 rfl rfl)
theorem dX26_range_34 : decode cX26_range 34 = .ok (.aload_n 0, 1) := dk_42 (dk_at dksX26_range_1 12 rfl rfl)
theorem dX26_range_35 : decode cX26_range 35 = .ok (.iload 4, 2) := dk_21 4 (dk_at dksX26_range_1 13 rfl rfl)
theorem dX26_range_37 : decode cX26_range 37 = .ok (.iload_n 1, 1) := dk_27 (dk_at dksX26_range_1 15 rfl rfl)
theorem dX26_range_38 : decode cX26_range 38 = .ok (.iconst 3, 1) := dk_6 (dk_at dksX26_range_1 16 rfl rfl)
theorem dX26_range_39 : decode cX26_range 39 = .ok (.if_icmp .eq 17, 3) := dk_159 0 17 (dk_at dksX26_range_1 17 rfl rfl)
theorem dX26_range_42 : decode cX26_range 42 = .ok (.iload_n 1, 1) := dk_27 (dk_at dksX26_range_1 20 rfl rfl)
theorem dX26_range_43 : decode cX26_range 43 = .ok (.iconst 5, 1) := dk_8 (dk_at dksX26_range_1 21 rfl rfl)
theorem dX26_range_44 : decode cX26_range 44 = .ok (.if_icmp .ne 16, 3) := dk_160 0 16 (dk_at dksX26_range_2 0 rfl rfl)
theorem dX26_range_47 : decode cX26_range 47 = .ok (.aload_n 0, 1) := dk_42 (dk_at dksX26_range_2 3 rfl rfl)
theorem dX26_range_48 : decode cX26_range 48 = .ok (.iload 4, 2) := dk_21 4 (dk_at dksX26_range_2 4 rfl rfl)
theorem dX26_range_50 : decode cX26_range 50 = .ok (.invokevirtual 17, 3) := dk_182 0 17 (dk_at dksX26_range_2 6 rfl rfl)
theorem dX26_range_53 : decode cX26_range 53 = .ok (.ifCond .ne 7, 3) := dk_154 0 7 (dk_at dksX26_range_2 9 rfl rfl)
theorem dX26_range_56 : decode cX26_range 56 = .ok (.iconst 1, 1) := dk_4 (dk_at dksX26_range_2 12 rfl rfl)
theorem dX26_range_57 : decode cX26_range 57 = .ok (.goto 4, 3) := dk_167 0 4 (dk_at dksX26_range_2 13 rfl rfl)
theorem dX26_range_60 : decode cX26_range 60 = .ok (.iconst 0, 1) := dk_3 (dk_at dksX26_range_2 16 rfl rfl)
theorem dX26_range_61 : decode cX26_range 61 = .ok (.invokevirtual 29, 3) := dk_182 0 29 (dk_at dksX26_range_2 17 rfl rfl)
theorem dX26_range_64 : decode cX26_range 64 = .ok (.iinc 4 1, 3) := dk_132 4 1 (dk_at dksX26_range_2 20 rfl rfl)
theorem dX26_range_67 : decode cX26_range 67 = .ok (.goto (-39), 3) := dk_167 255 217 (dk_at dksX26_range_3 0 rfl rfl)
theorem dX26_range_70 : decode cX26_range 70 = .ok (.aload_n 0, 1) := dk_42 (dk_at dksX26_range_3 3 rfl rfl)
theorem dX26_range_71 : decode cX26_range 71 = .ok (.invokevirtual 33, 3) := dk_182 0 33 (dk_at dksX26_range_3 4 rfl rfl)
theorem dX26_range_74 : decode cX26_range 74 = .ok (.ireturn, 1) := dk_172 (dk_at dksX26_range_3 7 rfl rfl)
abbrev cX26_count : ByteArray := prog_3_method_8_code
def yX26_count : MethodName := ⟨RX26, "count", "()I"⟩
def dkwX26_count_1 : List UInt8 := [132, 2, 1, 167, 255, 235, 27, 172]
abbrev dktX26_count_1 : List UInt8 := dkwX26_count_1 ++ []
def dkwX26_count_0 : List UInt8 := [3, 60, 3, 61, 28, 16, 64, 162, 0, 21, 27, 42, 180, 0, 9, 28, 47, 184, 0, 21, 96, 60]
abbrev dktX26_count_0 : List UInt8 := dkwX26_count_0 ++ dktX26_count_1
theorem dksX26_count_0 : cX26_count.data.toList.drop 0 = dktX26_count_0 := by decide +kernel
theorem dksX26_count_1 : cX26_count.data.toList.drop 22 = dktX26_count_1 := dk_seg dksX26_count_0 22 rfl rfl
theorem dX26_count_0 : decode cX26_count 0 = .ok (.iconst 0, 1) := dk_3 (dk_at dksX26_count_0 0 rfl rfl)
theorem dX26_count_1 : decode cX26_count 1 = .ok (.istore_n 1, 1) := dk_60 (dk_at dksX26_count_0 1 rfl rfl)
theorem dX26_count_2 : decode cX26_count 2 = .ok (.iconst 0, 1) := dk_3 (dk_at dksX26_count_0 2 rfl rfl)
theorem dX26_count_3 : decode cX26_count 3 = .ok (.istore_n 2, 1) := dk_61 (dk_at dksX26_count_0 3 rfl rfl)
theorem dX26_count_4 : decode cX26_count 4 = .ok (.iload_n 2, 1) := dk_28 (dk_at dksX26_count_0 4 rfl rfl)
theorem dX26_count_5 : decode cX26_count 5 = .ok (.bipush 64, 2) := dk_16 64 (dk_at dksX26_count_0 5 rfl rfl)
theorem dX26_count_7 : decode cX26_count 7 = .ok (.if_icmp .ge 21, 3) := dk_162 0 21 (dk_at dksX26_count_0 7 rfl rfl)
theorem dX26_count_10 : decode cX26_count 10 = .ok (.iload_n 1, 1) := dk_27 (dk_at dksX26_count_0 10 rfl rfl)
theorem dX26_count_11 : decode cX26_count 11 = .ok (.aload_n 0, 1) := dk_42 (dk_at dksX26_count_0 11 rfl rfl)
theorem dX26_count_12 : decode cX26_count 12 = .ok (.getfield 9, 3) := dk_180 0 9 (dk_at dksX26_count_0 12 rfl rfl)
theorem dX26_count_15 : decode cX26_count 15 = .ok (.iload_n 2, 1) := dk_28 (dk_at dksX26_count_0 15 rfl rfl)
theorem dX26_count_16 : decode cX26_count 16 = .ok (.laload, 1) := dk_47 (dk_at dksX26_count_0 16 rfl rfl)
theorem dX26_count_17 : decode cX26_count 17 = .ok (.invokestatic 21, 3) := dk_184 0 21 (dk_at dksX26_count_0 17 rfl rfl)
theorem dX26_count_20 : decode cX26_count 20 = .ok (.iadd, 1) := dk_96 (dk_at dksX26_count_0 20 rfl rfl)
theorem dX26_count_21 : decode cX26_count 21 = .ok (.istore_n 1, 1) := dk_60 (dk_at dksX26_count_0 21 rfl rfl)
theorem dX26_count_22 : decode cX26_count 22 = .ok (.iinc 2 1, 3) := dk_132 2 1 (dk_at dksX26_count_1 0 rfl rfl)
theorem dX26_count_25 : decode cX26_count 25 = .ok (.goto (-21), 3) := dk_167 255 235 (dk_at dksX26_count_1 3 rfl rfl)
theorem dX26_count_28 : decode cX26_count 28 = .ok (.iload_n 1, 1) := dk_27 (dk_at dksX26_count_1 6 rfl rfl)
theorem dX26_count_29 : decode cX26_count 29 = .ok (.ireturn, 1) := dk_172 (dk_at dksX26_count_1 7 rfl rfl)
abbrev cX26_ones : ByteArray := prog_3_method_7_code
def yX26_ones : MethodName := ⟨RX26, "ones", "(J)I"⟩
def dkwX26_ones_0 : List UInt8 := [3, 61, 30, 66, 33, 9, 148, 153, 0, 15, 132, 2, 1, 33, 33, 10, 101, 127, 66, 167, 255, 241, 28, 172]
abbrev dktX26_ones_0 : List UInt8 := dkwX26_ones_0 ++ []
theorem dksX26_ones_0 : cX26_ones.data.toList.drop 0 = dktX26_ones_0 := by decide +kernel
theorem dX26_ones_0 : decode cX26_ones 0 = .ok (.iconst 0, 1) := dk_3 (dk_at dksX26_ones_0 0 rfl rfl)
theorem dX26_ones_1 : decode cX26_ones 1 = .ok (.istore_n 2, 1) := dk_61 (dk_at dksX26_ones_0 1 rfl rfl)
theorem dX26_ones_2 : decode cX26_ones 2 = .ok (.lload_n 0, 1) := dk_30 (dk_at dksX26_ones_0 2 rfl rfl)
theorem dX26_ones_3 : decode cX26_ones 3 = .ok (.lstore_n 3, 1) := dk_66 (dk_at dksX26_ones_0 3 rfl rfl)
theorem dX26_ones_4 : decode cX26_ones 4 = .ok (.lload_n 3, 1) := dk_33 (dk_at dksX26_ones_0 4 rfl rfl)
theorem dX26_ones_5 : decode cX26_ones 5 = .ok (.lconst 0, 1) := dk_9 (dk_at dksX26_ones_0 5 rfl rfl)
theorem dX26_ones_6 : decode cX26_ones 6 = .ok (.lcmp, 1) := dk_148 (dk_at dksX26_ones_0 6 rfl rfl)
theorem dX26_ones_7 : decode cX26_ones 7 = .ok (.ifCond .eq 15, 3) := dk_153 0 15 (dk_at dksX26_ones_0 7 rfl rfl)
theorem dX26_ones_10 : decode cX26_ones 10 = .ok (.iinc 2 1, 3) := dk_132 2 1 (dk_at dksX26_ones_0 10 rfl rfl)
theorem dX26_ones_13 : decode cX26_ones 13 = .ok (.lload_n 3, 1) := dk_33 (dk_at dksX26_ones_0 13 rfl rfl)
theorem dX26_ones_14 : decode cX26_ones 14 = .ok (.lload_n 3, 1) := dk_33 (dk_at dksX26_ones_0 14 rfl rfl)
theorem dX26_ones_15 : decode cX26_ones 15 = .ok (.lconst 1, 1) := dk_10 (dk_at dksX26_ones_0 15 rfl rfl)
theorem dX26_ones_16 : decode cX26_ones 16 = .ok (.lsub, 1) := dk_101 (dk_at dksX26_ones_0 16 rfl rfl)
theorem dX26_ones_17 : decode cX26_ones 17 = .ok (.land, 1) := dk_127 (dk_at dksX26_ones_0 17 rfl rfl)
theorem dX26_ones_18 : decode cX26_ones 18 = .ok (.lstore_n 3, 1) := dk_66 (dk_at dksX26_ones_0 18 rfl rfl)
theorem dX26_ones_19 : decode cX26_ones 19 = .ok (.goto (-15), 3) := dk_167 255 241 (dk_at dksX26_ones_0 19 rfl rfl)
theorem dX26_ones_22 : decode cX26_ones 22 = .ok (.iload_n 2, 1) := dk_28 (dk_at dksX26_ones_0 22 rfl rfl)
theorem dX26_ones_23 : decode cX26_ones 23 = .ok (.ireturn, 1) := dk_172 (dk_at dksX26_ones_0 23 rfl rfl)
abbrev cX26_next : ByteArray := prog_3_method_5_code
def yX26_next : MethodName := ⟨RX26, "next", "(IZ)I"⟩
def dkwX26_next_1 : List UInt8 := [167, 255, 235, 28, 153, 0, 7, 2, 167, 0, 6, 17, 16, 0, 172]
abbrev dktX26_next_1 : List UInt8 := dkwX26_next_1 ++ []
def dkwX26_next_0 : List UInt8 := [27, 62, 29, 17, 16, 0, 162, 0, 20, 42, 29, 182, 0, 17, 28, 160, 0, 5, 29, 172, 132, 3, 1]
abbrev dktX26_next_0 : List UInt8 := dkwX26_next_0 ++ dktX26_next_1
theorem dksX26_next_0 : cX26_next.data.toList.drop 0 = dktX26_next_0 := by decide +kernel
theorem dksX26_next_1 : cX26_next.data.toList.drop 23 = dktX26_next_1 := dk_seg dksX26_next_0 23 rfl rfl
theorem dX26_next_0 : decode cX26_next 0 = .ok (.iload_n 1, 1) := dk_27 (dk_at dksX26_next_0 0 rfl rfl)
theorem dX26_next_1 : decode cX26_next 1 = .ok (.istore_n 3, 1) := dk_62 (dk_at dksX26_next_0 1 rfl rfl)
theorem dX26_next_2 : decode cX26_next 2 = .ok (.iload_n 3, 1) := dk_29 (dk_at dksX26_next_0 2 rfl rfl)
theorem dX26_next_3 : decode cX26_next 3 = .ok (.sipush 4096, 3) := dk_17 16 0 (dk_at dksX26_next_0 3 rfl rfl)
theorem dX26_next_6 : decode cX26_next 6 = .ok (.if_icmp .ge 20, 3) := dk_162 0 20 (dk_at dksX26_next_0 6 rfl rfl)
theorem dX26_next_9 : decode cX26_next 9 = .ok (.aload_n 0, 1) := dk_42 (dk_at dksX26_next_0 9 rfl rfl)
theorem dX26_next_10 : decode cX26_next 10 = .ok (.iload_n 3, 1) := dk_29 (dk_at dksX26_next_0 10 rfl rfl)
theorem dX26_next_11 : decode cX26_next 11 = .ok (.invokevirtual 17, 3) := dk_182 0 17 (dk_at dksX26_next_0 11 rfl rfl)
theorem dX26_next_14 : decode cX26_next 14 = .ok (.iload_n 2, 1) := dk_28 (dk_at dksX26_next_0 14 rfl rfl)
theorem dX26_next_15 : decode cX26_next 15 = .ok (.if_icmp .ne 5, 3) := dk_160 0 5 (dk_at dksX26_next_0 15 rfl rfl)
theorem dX26_next_18 : decode cX26_next 18 = .ok (.iload_n 3, 1) := dk_29 (dk_at dksX26_next_0 18 rfl rfl)
theorem dX26_next_19 : decode cX26_next 19 = .ok (.ireturn, 1) := dk_172 (dk_at dksX26_next_0 19 rfl rfl)
theorem dX26_next_20 : decode cX26_next 20 = .ok (.iinc 3 1, 3) := dk_132 3 1 (dk_at dksX26_next_0 20 rfl rfl)
theorem dX26_next_23 : decode cX26_next 23 = .ok (.goto (-21), 3) := dk_167 255 235 (dk_at dksX26_next_1 0 rfl rfl)
theorem dX26_next_26 : decode cX26_next 26 = .ok (.iload_n 2, 1) := dk_28 (dk_at dksX26_next_1 3 rfl rfl)
theorem dX26_next_27 : decode cX26_next 27 = .ok (.ifCond .eq 7, 3) := dk_153 0 7 (dk_at dksX26_next_1 4 rfl rfl)
theorem dX26_next_30 : decode cX26_next 30 = .ok (.iconst (-1), 1) := dk_2 (dk_at dksX26_next_1 7 rfl rfl)
theorem dX26_next_31 : decode cX26_next 31 = .ok (.goto 6, 3) := dk_167 0 6 (dk_at dksX26_next_1 8 rfl rfl)
theorem dX26_next_34 : decode cX26_next 34 = .ok (.sipush 4096, 3) := dk_17 16 0 (dk_at dksX26_next_1 11 rfl rfl)
theorem dX26_next_37 : decode cX26_next 37 = .ok (.ireturn, 1) := dk_172 (dk_at dksX26_next_1 14 rfl rfl)
abbrev cX26_before : ByteArray := prog_3_method_6_code
def yX26_before : MethodName := ⟨RX26, "before", "(IZ)I"⟩
def dkwX26_before_1 : List UInt8 := [172]
abbrev dktX26_before_1 : List UInt8 := dkwX26_before_1 ++ []
def dkwX26_before_0 : List UInt8 := [27, 62, 29, 155, 0, 20, 42, 29, 182, 0, 17, 28, 160, 0, 5, 29, 172, 132, 3, 255, 167, 255, 238, 2]
abbrev dktX26_before_0 : List UInt8 := dkwX26_before_0 ++ dktX26_before_1
theorem dksX26_before_0 : cX26_before.data.toList.drop 0 = dktX26_before_0 := by decide +kernel
theorem dksX26_before_1 : cX26_before.data.toList.drop 24 = dktX26_before_1 := dk_seg dksX26_before_0 24 rfl rfl
theorem dX26_before_0 : decode cX26_before 0 = .ok (.iload_n 1, 1) := dk_27 (dk_at dksX26_before_0 0 rfl rfl)
theorem dX26_before_1 : decode cX26_before 1 = .ok (.istore_n 3, 1) := dk_62 (dk_at dksX26_before_0 1 rfl rfl)
theorem dX26_before_2 : decode cX26_before 2 = .ok (.iload_n 3, 1) := dk_29 (dk_at dksX26_before_0 2 rfl rfl)
theorem dX26_before_3 : decode cX26_before 3 = .ok (.ifCond .lt 20, 3) := dk_155 0 20 (dk_at dksX26_before_0 3 rfl rfl)
theorem dX26_before_6 : decode cX26_before 6 = .ok (.aload_n 0, 1) := dk_42 (dk_at dksX26_before_0 6 rfl rfl)
theorem dX26_before_7 : decode cX26_before 7 = .ok (.iload_n 3, 1) := dk_29 (dk_at dksX26_before_0 7 rfl rfl)
theorem dX26_before_8 : decode cX26_before 8 = .ok (.invokevirtual 17, 3) := dk_182 0 17 (dk_at dksX26_before_0 8 rfl rfl)
theorem dX26_before_11 : decode cX26_before 11 = .ok (.iload_n 2, 1) := dk_28 (dk_at dksX26_before_0 11 rfl rfl)
theorem dX26_before_12 : decode cX26_before 12 = .ok (.if_icmp .ne 5, 3) := dk_160 0 5 (dk_at dksX26_before_0 12 rfl rfl)
theorem dX26_before_15 : decode cX26_before 15 = .ok (.iload_n 3, 1) := dk_29 (dk_at dksX26_before_0 15 rfl rfl)
theorem dX26_before_16 : decode cX26_before 16 = .ok (.ireturn, 1) := dk_172 (dk_at dksX26_before_0 16 rfl rfl)
theorem dX26_before_17 : decode cX26_before 17 = .ok (.iinc 3 (-1), 3) := dk_132 3 255 (dk_at dksX26_before_0 17 rfl rfl)
theorem dX26_before_20 : decode cX26_before 20 = .ok (.goto (-18), 3) := dk_167 255 238 (dk_at dksX26_before_0 20 rfl rfl)
theorem dX26_before_23 : decode cX26_before 23 = .ok (.iconst (-1), 1) := dk_2 (dk_at dksX26_before_0 23 rfl rfl)
theorem dX26_before_24 : decode cX26_before 24 = .ok (.ireturn, 1) := dk_172 (dk_at dksX26_before_1 0 rfl rfl)
abbrev cX26_with : ByteArray := prog_3_method_10_code
def yX26_with : MethodName := ⟨RX26, "with", "(ILLibraryDesk$BitsThing;)I"⟩
def dkwX26_with_3 : List UInt8 := [167, 0, 12, 22, 4, 22, 6, 20, 0, 15, 131, 127, 80, 132, 3, 1, 167, 255, 174, 42, 182, 0, 33, 172]
abbrev dktX26_with_3 : List UInt8 := dkwX26_with_3 ++ []
def dkwX26_with_2 : List UInt8 := [160, 0, 11, 22, 4, 22, 6, 129, 167, 0, 26, 27, 16, 15, 160, 0, 11, 22, 4, 22, 6, 131]
abbrev dktX26_with_2 : List UInt8 := dkwX26_with_2 ++ dktX26_with_3
def dkwX26_with_1 : List UInt8 := [42, 180, 0, 9, 29, 27, 16, 13, 160, 0, 11, 22, 4, 22, 6, 127, 167, 0, 40, 27, 16, 14]
abbrev dktX26_with_1 : List UInt8 := dkwX26_with_1 ++ dktX26_with_2
def dkwX26_with_0 : List UInt8 := [3, 62, 29, 16, 64, 162, 0, 82, 42, 180, 0, 9, 29, 47, 55, 4, 44, 180, 0, 9, 29, 47, 55, 6]
abbrev dktX26_with_0 : List UInt8 := dkwX26_with_0 ++ dktX26_with_1
theorem dksX26_with_0 : cX26_with.data.toList.drop 0 = dktX26_with_0 := by decide +kernel
theorem dksX26_with_1 : cX26_with.data.toList.drop 24 = dktX26_with_1 := dk_seg dksX26_with_0 24 rfl rfl
theorem dksX26_with_2 : cX26_with.data.toList.drop 46 = dktX26_with_2 := dk_seg dksX26_with_1 22 rfl rfl
theorem dksX26_with_3 : cX26_with.data.toList.drop 68 = dktX26_with_3 := dk_seg dksX26_with_2 22 rfl rfl
theorem dX26_with_0 : decode cX26_with 0 = .ok (.iconst 0, 1) := dk_3 (dk_at dksX26_with_0 0 rfl rfl)
theorem dX26_with_1 : decode cX26_with 1 = .ok (.istore_n 3, 1) := dk_62 (dk_at dksX26_with_0 1 rfl rfl)
theorem dX26_with_2 : decode cX26_with 2 = .ok (.iload_n 3, 1) := dk_29 (dk_at dksX26_with_0 2 rfl rfl)
theorem dX26_with_3 : decode cX26_with 3 = .ok (.bipush 64, 2) := dk_16 64 (dk_at dksX26_with_0 3 rfl rfl)
theorem dX26_with_5 : decode cX26_with 5 = .ok (.if_icmp .ge 82, 3) := dk_162 0 82 (dk_at dksX26_with_0 5 rfl rfl)
theorem dX26_with_8 : decode cX26_with 8 = .ok (.aload_n 0, 1) := dk_42 (dk_at dksX26_with_0 8 rfl rfl)
theorem dX26_with_9 : decode cX26_with 9 = .ok (.getfield 9, 3) := dk_180 0 9 (dk_at dksX26_with_0 9 rfl rfl)
theorem dX26_with_12 : decode cX26_with 12 = .ok (.iload_n 3, 1) := dk_29 (dk_at dksX26_with_0 12 rfl rfl)
theorem dX26_with_13 : decode cX26_with 13 = .ok (.laload, 1) := dk_47 (dk_at dksX26_with_0 13 rfl rfl)
theorem dX26_with_14 : decode cX26_with 14 = .ok (.lstore 4, 2) := dk_55 4 (dk_at dksX26_with_0 14 rfl rfl)
theorem dX26_with_16 : decode cX26_with 16 = .ok (.aload_n 2, 1) := dk_44 (dk_at dksX26_with_0 16 rfl rfl)
theorem dX26_with_17 : decode cX26_with 17 = .ok (.getfield 9, 3) := dk_180 0 9 (dk_at dksX26_with_0 17 rfl rfl)
theorem dX26_with_20 : decode cX26_with 20 = .ok (.iload_n 3, 1) := dk_29 (dk_at dksX26_with_0 20 rfl rfl)
theorem dX26_with_21 : decode cX26_with 21 = .ok (.laload, 1) := dk_47 (dk_at dksX26_with_0 21 rfl rfl)
theorem dX26_with_22 : decode cX26_with 22 = .ok (.lstore 6, 2) := dk_55 6 (dk_at dksX26_with_0 22 rfl rfl)
theorem dX26_with_24 : decode cX26_with 24 = .ok (.aload_n 0, 1) := dk_42 (dk_at dksX26_with_1 0 rfl rfl)
theorem dX26_with_25 : decode cX26_with 25 = .ok (.getfield 9, 3) := dk_180 0 9 (dk_at dksX26_with_1 1 rfl rfl)
theorem dX26_with_28 : decode cX26_with 28 = .ok (.iload_n 3, 1) := dk_29 (dk_at dksX26_with_1 4 rfl rfl)
theorem dX26_with_29 : decode cX26_with 29 = .ok (.iload_n 1, 1) := dk_27 (dk_at dksX26_with_1 5 rfl rfl)
theorem dX26_with_30 : decode cX26_with 30 = .ok (.bipush 13, 2) := dk_16 13 (dk_at dksX26_with_1 6 rfl rfl)
theorem dX26_with_32 : decode cX26_with 32 = .ok (.if_icmp .ne 11, 3) := dk_160 0 11 (dk_at dksX26_with_1 8 rfl rfl)
theorem dX26_with_35 : decode cX26_with 35 = .ok (.lload 4, 2) := dk_22 4 (dk_at dksX26_with_1 11 rfl rfl)
theorem dX26_with_37 : decode cX26_with 37 = .ok (.lload 6, 2) := dk_22 6 (dk_at dksX26_with_1 13 rfl rfl)
theorem dX26_with_39 : decode cX26_with 39 = .ok (.land, 1) := dk_127 (dk_at dksX26_with_1 15 rfl rfl)
theorem dX26_with_40 : decode cX26_with 40 = .ok (.goto 40, 3) := dk_167 0 40 (dk_at dksX26_with_1 16 rfl rfl)
theorem dX26_with_43 : decode cX26_with 43 = .ok (.iload_n 1, 1) := dk_27 (dk_at dksX26_with_1 19 rfl rfl)
theorem dX26_with_44 : decode cX26_with 44 = .ok (.bipush 14, 2) := dk_16 14 (dk_at dksX26_with_1 20 rfl rfl)
theorem dX26_with_46 : decode cX26_with 46 = .ok (.if_icmp .ne 11, 3) := dk_160 0 11 (dk_at dksX26_with_2 0 rfl rfl)
theorem dX26_with_49 : decode cX26_with 49 = .ok (.lload 4, 2) := dk_22 4 (dk_at dksX26_with_2 3 rfl rfl)
theorem dX26_with_51 : decode cX26_with 51 = .ok (.lload 6, 2) := dk_22 6 (dk_at dksX26_with_2 5 rfl rfl)
theorem dX26_with_53 : decode cX26_with 53 = .ok (.lor, 1) := dk_129 (dk_at dksX26_with_2 7 rfl rfl)
theorem dX26_with_54 : decode cX26_with 54 = .ok (.goto 26, 3) := dk_167 0 26 (dk_at dksX26_with_2 8 rfl rfl)
theorem dX26_with_57 : decode cX26_with 57 = .ok (.iload_n 1, 1) := dk_27 (dk_at dksX26_with_2 11 rfl rfl)
theorem dX26_with_58 : decode cX26_with 58 = .ok (.bipush 15, 2) := dk_16 15 (dk_at dksX26_with_2 12 rfl rfl)
theorem dX26_with_60 : decode cX26_with 60 = .ok (.if_icmp .ne 11, 3) := dk_160 0 11 (dk_at dksX26_with_2 14 rfl rfl)
theorem dX26_with_63 : decode cX26_with 63 = .ok (.lload 4, 2) := dk_22 4 (dk_at dksX26_with_2 17 rfl rfl)
theorem dX26_with_65 : decode cX26_with 65 = .ok (.lload 6, 2) := dk_22 6 (dk_at dksX26_with_2 19 rfl rfl)
theorem dX26_with_67 : decode cX26_with 67 = .ok (.lxor, 1) := dk_131 (dk_at dksX26_with_2 21 rfl rfl)
theorem dX26_with_68 : decode cX26_with 68 = .ok (.goto 12, 3) := dk_167 0 12 (dk_at dksX26_with_3 0 rfl rfl)
theorem dX26_with_71 : decode cX26_with 71 = .ok (.lload 4, 2) := dk_22 4 (dk_at dksX26_with_3 3 rfl rfl)
theorem dX26_with_73 : decode cX26_with 73 = .ok (.lload 6, 2) := dk_22 6 (dk_at dksX26_with_3 5 rfl rfl)
theorem dX26_with_75 : decode cX26_with 75 = .ok (.ldc2_w 15, 3) := dk_20 0 15 (dk_at dksX26_with_3 7 rfl rfl)
theorem dX26_with_78 : decode cX26_with 78 = .ok (.lxor, 1) := dk_131 (dk_at dksX26_with_3 10 rfl rfl)
theorem dX26_with_79 : decode cX26_with 79 = .ok (.land, 1) := dk_127 (dk_at dksX26_with_3 11 rfl rfl)
theorem dX26_with_80 : decode cX26_with 80 = .ok (.lastore, 1) := dk_80 (dk_at dksX26_with_3 12 rfl rfl)
theorem dX26_with_81 : decode cX26_with 81 = .ok (.iinc 3 1, 3) := dk_132 3 1 (dk_at dksX26_with_3 13 rfl rfl)
theorem dX26_with_84 : decode cX26_with 84 = .ok (.goto (-82), 3) := dk_167 255 174 (dk_at dksX26_with_3 16 rfl rfl)
theorem dX26_with_87 : decode cX26_with 87 = .ok (.aload_n 0, 1) := dk_42 (dk_at dksX26_with_3 19 rfl rfl)
theorem dX26_with_88 : decode cX26_with 88 = .ok (.invokevirtual 33, 3) := dk_182 0 33 (dk_at dksX26_with_3 20 rfl rfl)
theorem dX26_with_91 : decode cX26_with 91 = .ok (.ireturn, 1) := dk_172 (dk_at dksX26_with_3 23 rfl rfl)
abbrev cX26_ask : ByteArray := prog_3_method_11_code
def yX26_ask : MethodName := ⟨RX26, "ask", "(ILLibraryDesk$BitsThing;)I"⟩
def dkwX26_ask_3 : List UInt8 := [167, 0, 4, 3, 172]
abbrev dktX26_ask_3 : List UInt8 := dkwX26_ask_3 ++ []
def dkwX26_ask_2 : List UInt8 := [180, 0, 9, 29, 47, 148, 153, 0, 5, 3, 172, 132, 3, 1, 167, 255, 197, 27, 16, 18, 160, 0, 7, 4]
abbrev dktX26_ask_2 : List UInt8 := dkwX26_ask_2 ++ dktX26_ask_3
def dkwX26_ask_1 : List UInt8 := [29, 47, 127, 9, 148, 153, 0, 5, 4, 172, 27, 16, 18, 160, 0, 21, 42, 180, 0, 9, 29, 47, 44]
abbrev dktX26_ask_1 : List UInt8 := dkwX26_ask_1 ++ dktX26_ask_2
def dkwX26_ask_0 : List UInt8 := [3, 62, 29, 16, 64, 162, 0, 59, 27, 16, 17, 160, 0, 23, 42, 180, 0, 9, 29, 47, 44, 180, 0, 9]
abbrev dktX26_ask_0 : List UInt8 := dkwX26_ask_0 ++ dktX26_ask_1
theorem dksX26_ask_0 : cX26_ask.data.toList.drop 0 = dktX26_ask_0 := by decide +kernel
theorem dksX26_ask_1 : cX26_ask.data.toList.drop 24 = dktX26_ask_1 := dk_seg dksX26_ask_0 24 rfl rfl
theorem dksX26_ask_2 : cX26_ask.data.toList.drop 47 = dktX26_ask_2 := dk_seg dksX26_ask_1 23 rfl rfl
theorem dksX26_ask_3 : cX26_ask.data.toList.drop 71 = dktX26_ask_3 := dk_seg dksX26_ask_2 24 rfl rfl
theorem dX26_ask_0 : decode cX26_ask 0 = .ok (.iconst 0, 1) := dk_3 (dk_at dksX26_ask_0 0 rfl rfl)
theorem dX26_ask_1 : decode cX26_ask 1 = .ok (.istore_n 3, 1) := dk_62 (dk_at dksX26_ask_0 1 rfl rfl)
theorem dX26_ask_2 : decode cX26_ask 2 = .ok (.iload_n 3, 1) := dk_29 (dk_at dksX26_ask_0 2 rfl rfl)
theorem dX26_ask_3 : decode cX26_ask 3 = .ok (.bipush 64, 2) := dk_16 64 (dk_at dksX26_ask_0 3 rfl rfl)
theorem dX26_ask_5 : decode cX26_ask 5 = .ok (.if_icmp .ge 59, 3) := dk_162 0 59 (dk_at dksX26_ask_0 5 rfl rfl)
theorem dX26_ask_8 : decode cX26_ask 8 = .ok (.iload_n 1, 1) := dk_27 (dk_at dksX26_ask_0 8 rfl rfl)
theorem dX26_ask_9 : decode cX26_ask 9 = .ok (.bipush 17, 2) := dk_16 17 (dk_at dksX26_ask_0 9 rfl rfl)
theorem dX26_ask_11 : decode cX26_ask 11 = .ok (.if_icmp .ne 23, 3) := dk_160 0 23 (dk_at dksX26_ask_0 11 rfl rfl)
theorem dX26_ask_14 : decode cX26_ask 14 = .ok (.aload_n 0, 1) := dk_42 (dk_at dksX26_ask_0 14 rfl rfl)
theorem dX26_ask_15 : decode cX26_ask 15 = .ok (.getfield 9, 3) := dk_180 0 9 (dk_at dksX26_ask_0 15 rfl rfl)
theorem dX26_ask_18 : decode cX26_ask 18 = .ok (.iload_n 3, 1) := dk_29 (dk_at dksX26_ask_0 18 rfl rfl)
theorem dX26_ask_19 : decode cX26_ask 19 = .ok (.laload, 1) := dk_47 (dk_at dksX26_ask_0 19 rfl rfl)
theorem dX26_ask_20 : decode cX26_ask 20 = .ok (.aload_n 2, 1) := dk_44 (dk_at dksX26_ask_0 20 rfl rfl)
theorem dX26_ask_21 : decode cX26_ask 21 = .ok (.getfield 9, 3) := dk_180 0 9 (dk_at dksX26_ask_0 21 rfl rfl)
theorem dX26_ask_24 : decode cX26_ask 24 = .ok (.iload_n 3, 1) := dk_29 (dk_at dksX26_ask_1 0 rfl rfl)
theorem dX26_ask_25 : decode cX26_ask 25 = .ok (.laload, 1) := dk_47 (dk_at dksX26_ask_1 1 rfl rfl)
theorem dX26_ask_26 : decode cX26_ask 26 = .ok (.land, 1) := dk_127 (dk_at dksX26_ask_1 2 rfl rfl)
theorem dX26_ask_27 : decode cX26_ask 27 = .ok (.lconst 0, 1) := dk_9 (dk_at dksX26_ask_1 3 rfl rfl)
theorem dX26_ask_28 : decode cX26_ask 28 = .ok (.lcmp, 1) := dk_148 (dk_at dksX26_ask_1 4 rfl rfl)
theorem dX26_ask_29 : decode cX26_ask 29 = .ok (.ifCond .eq 5, 3) := dk_153 0 5 (dk_at dksX26_ask_1 5 rfl rfl)
theorem dX26_ask_32 : decode cX26_ask 32 = .ok (.iconst 1, 1) := dk_4 (dk_at dksX26_ask_1 8 rfl rfl)
theorem dX26_ask_33 : decode cX26_ask 33 = .ok (.ireturn, 1) := dk_172 (dk_at dksX26_ask_1 9 rfl rfl)
theorem dX26_ask_34 : decode cX26_ask 34 = .ok (.iload_n 1, 1) := dk_27 (dk_at dksX26_ask_1 10 rfl rfl)
theorem dX26_ask_35 : decode cX26_ask 35 = .ok (.bipush 18, 2) := dk_16 18 (dk_at dksX26_ask_1 11 rfl rfl)
theorem dX26_ask_37 : decode cX26_ask 37 = .ok (.if_icmp .ne 21, 3) := dk_160 0 21 (dk_at dksX26_ask_1 13 rfl rfl)
theorem dX26_ask_40 : decode cX26_ask 40 = .ok (.aload_n 0, 1) := dk_42 (dk_at dksX26_ask_1 16 rfl rfl)
theorem dX26_ask_41 : decode cX26_ask 41 = .ok (.getfield 9, 3) := dk_180 0 9 (dk_at dksX26_ask_1 17 rfl rfl)
theorem dX26_ask_44 : decode cX26_ask 44 = .ok (.iload_n 3, 1) := dk_29 (dk_at dksX26_ask_1 20 rfl rfl)
theorem dX26_ask_45 : decode cX26_ask 45 = .ok (.laload, 1) := dk_47 (dk_at dksX26_ask_1 21 rfl rfl)
theorem dX26_ask_46 : decode cX26_ask 46 = .ok (.aload_n 2, 1) := dk_44 (dk_at dksX26_ask_1 22 rfl rfl)
theorem dX26_ask_47 : decode cX26_ask 47 = .ok (.getfield 9, 3) := dk_180 0 9 (dk_at dksX26_ask_2 0 rfl rfl)
theorem dX26_ask_50 : decode cX26_ask 50 = .ok (.iload_n 3, 1) := dk_29 (dk_at dksX26_ask_2 3 rfl rfl)
theorem dX26_ask_51 : decode cX26_ask 51 = .ok (.laload, 1) := dk_47 (dk_at dksX26_ask_2 4 rfl rfl)
theorem dX26_ask_52 : decode cX26_ask 52 = .ok (.lcmp, 1) := dk_148 (dk_at dksX26_ask_2 5 rfl rfl)
theorem dX26_ask_53 : decode cX26_ask 53 = .ok (.ifCond .eq 5, 3) := dk_153 0 5 (dk_at dksX26_ask_2 6 rfl rfl)
theorem dX26_ask_56 : decode cX26_ask 56 = .ok (.iconst 0, 1) := dk_3 (dk_at dksX26_ask_2 9 rfl rfl)
theorem dX26_ask_57 : decode cX26_ask 57 = .ok (.ireturn, 1) := dk_172 (dk_at dksX26_ask_2 10 rfl rfl)
theorem dX26_ask_58 : decode cX26_ask 58 = .ok (.iinc 3 1, 3) := dk_132 3 1 (dk_at dksX26_ask_2 11 rfl rfl)
theorem dX26_ask_61 : decode cX26_ask 61 = .ok (.goto (-59), 3) := dk_167 255 197 (dk_at dksX26_ask_2 14 rfl rfl)
theorem dX26_ask_64 : decode cX26_ask 64 = .ok (.iload_n 1, 1) := dk_27 (dk_at dksX26_ask_2 17 rfl rfl)
theorem dX26_ask_65 : decode cX26_ask 65 = .ok (.bipush 18, 2) := dk_16 18 (dk_at dksX26_ask_2 18 rfl rfl)
theorem dX26_ask_67 : decode cX26_ask 67 = .ok (.if_icmp .ne 7, 3) := dk_160 0 7 (dk_at dksX26_ask_2 20 rfl rfl)
theorem dX26_ask_70 : decode cX26_ask 70 = .ok (.iconst 1, 1) := dk_4 (dk_at dksX26_ask_2 23 rfl rfl)
theorem dX26_ask_71 : decode cX26_ask 71 = .ok (.goto 4, 3) := dk_167 0 4 (dk_at dksX26_ask_3 0 rfl rfl)
theorem dX26_ask_74 : decode cX26_ask 74 = .ok (.iconst 0, 1) := dk_3 (dk_at dksX26_ask_3 3 rfl rfl)
theorem dX26_ask_75 : decode cX26_ask 75 = .ok (.ireturn, 1) := dk_172 (dk_at dksX26_ask_3 4 rfl rfl)
theorem q542 : (Jvm.Cond.initialized "LibraryDesk$BitsThing") ∈ lw_all := lw_g (lw_at lw_m1 35 rfl) rfl
theorem q1611 : (Jvm.Cond.instantiable "LibraryDesk$BitsThing" (3 : Nat)) ∈ lw_all := lw_g (lw_at lw_m5 144 rfl) rfl
theorem q1613 : (Jvm.Cond.instanceMethod ({ cls := "LibraryDesk$BitsThing", name := "<init>", desc := "()V" } : Jvm.MethodName)) ∈ lw_all := lw_g (lw_at lw_m5 146 rfl) rfl
theorem q1614 : (Jvm.Cond.code ({ cls := "LibraryDesk$BitsThing", name := "<init>", desc := "()V" } : Jvm.MethodName) prog_3_method_1_code (1 : Nat) (Option.none : Option Jvm.ClassFile.FieldType)) ∈ lw_all := lw_g (lw_at lw_m5 147 rfl) rfl
theorem q1615 : (Jvm.Cond.methodLinkNest "LibraryDesk$BitsThing" (3 : Nat) ({ cls := "LibraryDesk$Thing", name := "<init>", desc := "(I)V" } : Jvm.MethodName) "LibraryDesk") ∈ lw_tbl := lw_at lw_m5 148 rfl
theorem q1616 : (Jvm.Cond.fieldLink "LibraryDesk$BitsThing" (9 : Nat) "LibraryDesk$BitsThing" "word" "[J") ∈ lw_all := lw_g (lw_at lw_m5 149 rfl) rfl
theorem q1617 : (Jvm.Cond.laysFinal "LibraryDesk$BitsThing" "LibraryDesk$BitsThing" "word" "[J") ∈ lw_all := lw_g (lw_at lw_m5 150 rfl) rfl
theorem q1618 : (Jvm.Cond.soleField "LibraryDesk$BitsThing" "word") ∈ lw_all := lw_g (lw_at lw_m5 151 rfl) rfl
theorem q1619 : (Jvm.Cond.laysFinal "LibraryDesk$BitsThing" "LibraryDesk$Thing" "kind" "I") ∈ lw_all := lw_g (lw_at lw_m5 152 rfl) rfl
theorem q1620 : (Jvm.Cond.lays "LibraryDesk$BitsThing" "LibraryDesk$Thing" "used" "Z") ∈ lw_all := lw_g (lw_at lw_m5 153 rfl) rfl
theorem q1621 : (Jvm.Cond.superclass "LibraryDesk$BitsThing" "LibraryDesk$Thing") ∈ lw_all := lw_g (lw_at lw_m5 154 rfl) rfl
theorem q1913 : (Jvm.Cond.privateMethod ({ cls := "LibraryDesk$BitsThing", name := "begin", desc := "()V" } : Jvm.MethodName)) ∈ lw_tbl := lw_at lw_m6 206 rfl
theorem q1914 : (Jvm.Cond.instanceMethod ({ cls := "LibraryDesk$BitsThing", name := "begin", desc := "()V" } : Jvm.MethodName)) ∈ lw_all := lw_g (lw_at lw_m6 207 rfl) rfl
theorem q1915 : (Jvm.Cond.code ({ cls := "LibraryDesk$BitsThing", name := "begin", desc := "()V" } : Jvm.MethodName) prog_3_method_2_code (2 : Nat) (Option.none : Option Jvm.ClassFile.FieldType)) ∈ lw_all := lw_g (lw_at lw_m6 208 rfl) rfl
theorem q2960 : (Jvm.Cond.static ({ cls := "LibraryDesk$BitsThing", name := "isOfOne", desc := "(I)Z" } : Jvm.MethodName)) ∈ lw_all := lw_g (lw_at lw_m11 53 rfl) rfl
theorem q2961 : (Jvm.Cond.code ({ cls := "LibraryDesk$BitsThing", name := "isOfOne", desc := "(I)Z" } : Jvm.MethodName) prog_3_method_12_code (1 : Nat) (Option.some Jvm.ClassFile.FieldType.boolean)) ∈ lw_all := lw_g (lw_at lw_m11 54 rfl) rfl
theorem q2963 : (Jvm.Cond.privateMethod ({ cls := "LibraryDesk$BitsThing", name := "call", desc := "(III)J" } : Jvm.MethodName)) ∈ lw_tbl := lw_at lw_m11 56 rfl
theorem q2964 : (Jvm.Cond.instanceMethod ({ cls := "LibraryDesk$BitsThing", name := "call", desc := "(III)J" } : Jvm.MethodName)) ∈ lw_all := lw_g (lw_at lw_m11 57 rfl) rfl
theorem q2965 : (Jvm.Cond.code ({ cls := "LibraryDesk$BitsThing", name := "call", desc := "(III)J" } : Jvm.MethodName) prog_3_method_13_code (5 : Nat) (Option.some Jvm.ClassFile.FieldType.long)) ∈ lw_all := lw_g (lw_at lw_m11 58 rfl) rfl
theorem q2966 : (Jvm.Cond.methodLink "LibraryDesk$BitsThing" (37 : Nat) ({ cls := "LibraryDesk$BitsThing", name := "isOfOne", desc := "(I)Z" } : Jvm.MethodName)) ∈ lw_all := lw_g (lw_at lw_m11 59 rfl) rfl
theorem q2967 : (Jvm.Cond.methodLinkNest "LibraryDesk$BitsThing" (25 : Nat) ({ cls := "LibraryDesk", name := "within", desc := "(Z)V" } : Jvm.MethodName) "LibraryDesk") ∈ lw_tbl := lw_at lw_m11 60 rfl
theorem q2968 : (Jvm.Cond.methodLink "LibraryDesk$BitsThing" (17 : Nat) ({ cls := "LibraryDesk$BitsThing", name := "has", desc := "(I)Z" } : Jvm.MethodName)) ∈ lw_all := lw_g (lw_at lw_m11 61 rfl) rfl
theorem q2969 : (Jvm.Cond.privateMethod ({ cls := "LibraryDesk$BitsThing", name := "has", desc := "(I)Z" } : Jvm.MethodName)) ∈ lw_tbl := lw_at lw_m11 62 rfl
theorem q2970 : (Jvm.Cond.instanceMethod ({ cls := "LibraryDesk$BitsThing", name := "has", desc := "(I)Z" } : Jvm.MethodName)) ∈ lw_all := lw_g (lw_at lw_m11 63 rfl) rfl
theorem q2971 : (Jvm.Cond.code ({ cls := "LibraryDesk$BitsThing", name := "has", desc := "(I)Z" } : Jvm.MethodName) prog_3_method_3_code (2 : Nat) (Option.some Jvm.ClassFile.FieldType.boolean)) ∈ lw_all := lw_g (lw_at lw_m11 64 rfl) rfl
theorem q2972 : (Jvm.Cond.methodLink "LibraryDesk$BitsThing" (29 : Nat) ({ cls := "LibraryDesk$BitsThing", name := "put", desc := "(IZ)V" } : Jvm.MethodName)) ∈ lw_all := lw_g (lw_at lw_m11 65 rfl) rfl
theorem q2973 : (Jvm.Cond.privateMethod ({ cls := "LibraryDesk$BitsThing", name := "put", desc := "(IZ)V" } : Jvm.MethodName)) ∈ lw_tbl := lw_at lw_m11 66 rfl
theorem q2974 : (Jvm.Cond.instanceMethod ({ cls := "LibraryDesk$BitsThing", name := "put", desc := "(IZ)V" } : Jvm.MethodName)) ∈ lw_all := lw_g (lw_at lw_m11 67 rfl) rfl
theorem q2975 : (Jvm.Cond.code ({ cls := "LibraryDesk$BitsThing", name := "put", desc := "(IZ)V" } : Jvm.MethodName) prog_3_method_4_code (3 : Nat) (Option.none : Option Jvm.ClassFile.FieldType)) ∈ lw_all := lw_g (lw_at lw_m11 68 rfl) rfl
theorem q2976 : (Jvm.Cond.constantLong "LibraryDesk$BitsThing" (15 : Nat) (-1 : Int64)) ∈ lw_all := lw_g (lw_at lw_m11 69 rfl) rfl
theorem q2977 : (Jvm.Cond.methodLink "LibraryDesk$BitsThing" (40 : Nat) ({ cls := "LibraryDesk$BitsThing", name := "range", desc := "(III)I" } : Jvm.MethodName)) ∈ lw_all := lw_g (lw_at lw_m11 70 rfl) rfl
theorem q2978 : (Jvm.Cond.privateMethod ({ cls := "LibraryDesk$BitsThing", name := "range", desc := "(III)I" } : Jvm.MethodName)) ∈ lw_tbl := lw_at lw_m11 71 rfl
theorem q2979 : (Jvm.Cond.instanceMethod ({ cls := "LibraryDesk$BitsThing", name := "range", desc := "(III)I" } : Jvm.MethodName)) ∈ lw_all := lw_g (lw_at lw_m11 72 rfl) rfl
theorem q2980 : (Jvm.Cond.code ({ cls := "LibraryDesk$BitsThing", name := "range", desc := "(III)I" } : Jvm.MethodName) prog_3_method_9_code (5 : Nat) (Option.some Jvm.ClassFile.FieldType.int)) ∈ lw_all := lw_g (lw_at lw_m11 73 rfl) rfl
theorem q2981 : (Jvm.Cond.methodLink "LibraryDesk$BitsThing" (33 : Nat) ({ cls := "LibraryDesk$BitsThing", name := "count", desc := "()I" } : Jvm.MethodName)) ∈ lw_all := lw_g (lw_at lw_m11 74 rfl) rfl
theorem q2982 : (Jvm.Cond.privateMethod ({ cls := "LibraryDesk$BitsThing", name := "count", desc := "()I" } : Jvm.MethodName)) ∈ lw_tbl := lw_at lw_m11 75 rfl
theorem q2983 : (Jvm.Cond.instanceMethod ({ cls := "LibraryDesk$BitsThing", name := "count", desc := "()I" } : Jvm.MethodName)) ∈ lw_all := lw_g (lw_at lw_m11 76 rfl) rfl
theorem q2984 : (Jvm.Cond.code ({ cls := "LibraryDesk$BitsThing", name := "count", desc := "()I" } : Jvm.MethodName) prog_3_method_8_code (3 : Nat) (Option.some Jvm.ClassFile.FieldType.int)) ∈ lw_all := lw_g (lw_at lw_m11 77 rfl) rfl
theorem q2985 : (Jvm.Cond.methodLink "LibraryDesk$BitsThing" (21 : Nat) ({ cls := "LibraryDesk$BitsThing", name := "ones", desc := "(J)I" } : Jvm.MethodName)) ∈ lw_all := lw_g (lw_at lw_m11 78 rfl) rfl
theorem q2986 : (Jvm.Cond.static ({ cls := "LibraryDesk$BitsThing", name := "ones", desc := "(J)I" } : Jvm.MethodName)) ∈ lw_all := lw_g (lw_at lw_m11 79 rfl) rfl
theorem q2987 : (Jvm.Cond.code ({ cls := "LibraryDesk$BitsThing", name := "ones", desc := "(J)I" } : Jvm.MethodName) prog_3_method_7_code (5 : Nat) (Option.some Jvm.ClassFile.FieldType.int)) ∈ lw_all := lw_g (lw_at lw_m11 80 rfl) rfl
theorem q2988 : (Jvm.Cond.methodLink "LibraryDesk$BitsThing" (44 : Nat) ({ cls := "LibraryDesk$BitsThing", name := "next", desc := "(IZ)I" } : Jvm.MethodName)) ∈ lw_all := lw_g (lw_at lw_m11 81 rfl) rfl
theorem q2989 : (Jvm.Cond.privateMethod ({ cls := "LibraryDesk$BitsThing", name := "next", desc := "(IZ)I" } : Jvm.MethodName)) ∈ lw_tbl := lw_at lw_m11 82 rfl
theorem q2990 : (Jvm.Cond.instanceMethod ({ cls := "LibraryDesk$BitsThing", name := "next", desc := "(IZ)I" } : Jvm.MethodName)) ∈ lw_all := lw_g (lw_at lw_m11 83 rfl) rfl
theorem q2991 : (Jvm.Cond.code ({ cls := "LibraryDesk$BitsThing", name := "next", desc := "(IZ)I" } : Jvm.MethodName) prog_3_method_5_code (4 : Nat) (Option.some Jvm.ClassFile.FieldType.int)) ∈ lw_all := lw_g (lw_at lw_m11 84 rfl) rfl
theorem q2992 : (Jvm.Cond.methodLink "LibraryDesk$BitsThing" (48 : Nat) ({ cls := "LibraryDesk$BitsThing", name := "before", desc := "(IZ)I" } : Jvm.MethodName)) ∈ lw_all := lw_g (lw_at lw_m11 85 rfl) rfl
theorem q2993 : (Jvm.Cond.privateMethod ({ cls := "LibraryDesk$BitsThing", name := "before", desc := "(IZ)I" } : Jvm.MethodName)) ∈ lw_tbl := lw_at lw_m11 86 rfl
theorem q2994 : (Jvm.Cond.instanceMethod ({ cls := "LibraryDesk$BitsThing", name := "before", desc := "(IZ)I" } : Jvm.MethodName)) ∈ lw_all := lw_g (lw_at lw_m11 87 rfl) rfl
theorem q2995 : (Jvm.Cond.code ({ cls := "LibraryDesk$BitsThing", name := "before", desc := "(IZ)I" } : Jvm.MethodName) prog_3_method_6_code (4 : Nat) (Option.some Jvm.ClassFile.FieldType.int)) ∈ lw_all := lw_g (lw_at lw_m11 88 rfl) rfl
theorem q2997 : (Jvm.Cond.privateMethod ({ cls := "LibraryDesk$BitsThing", name := "with", desc := "(ILLibraryDesk$BitsThing;)I" } : Jvm.MethodName)) ∈ lw_tbl := lw_at lw_m11 90 rfl
theorem q2998 : (Jvm.Cond.instanceMethod ({ cls := "LibraryDesk$BitsThing", name := "with", desc := "(ILLibraryDesk$BitsThing;)I" } : Jvm.MethodName)) ∈ lw_all := lw_g (lw_at lw_m11 91 rfl) rfl
theorem q2999 : (Jvm.Cond.code ({ cls := "LibraryDesk$BitsThing", name := "with", desc := "(ILLibraryDesk$BitsThing;)I" } : Jvm.MethodName) prog_3_method_10_code (8 : Nat) (Option.some Jvm.ClassFile.FieldType.int)) ∈ lw_all := lw_g (lw_at lw_m11 92 rfl) rfl
theorem q3001 : (Jvm.Cond.privateMethod ({ cls := "LibraryDesk$BitsThing", name := "ask", desc := "(ILLibraryDesk$BitsThing;)I" } : Jvm.MethodName)) ∈ lw_tbl := lw_at lw_m11 94 rfl
theorem q3002 : (Jvm.Cond.instanceMethod ({ cls := "LibraryDesk$BitsThing", name := "ask", desc := "(ILLibraryDesk$BitsThing;)I" } : Jvm.MethodName)) ∈ lw_all := lw_g (lw_at lw_m11 95 rfl) rfl
theorem q3003 : (Jvm.Cond.code ({ cls := "LibraryDesk$BitsThing", name := "ask", desc := "(ILLibraryDesk$BitsThing;)I" } : Jvm.MethodName) prog_3_method_11_code (4 : Nat) (Option.some Jvm.ClassFile.FieldType.int)) ∈ lw_all := lw_g (lw_at lw_m11 96 rfl) rfl
theorem q6082 : (Jvm.Cond.selects "LibraryDesk$BitsThing" ({ cls := "LibraryDesk$Thing", name := "kind", desc := "()I" } : Jvm.MethodName) ({ cls := "LibraryDesk$Thing", name := "kind", desc := "()I" } : Jvm.MethodName)) ∈ lw_all := lw_g (lw_at lw_m24 55 rfl) rfl
theorem q6134 : (Jvm.Cond.castable "LibraryDesk$BitsThing" "java/lang/Object") ∈ lw_tbl := lw_at lw_m24 107 rfl
theorem q6159 : (Jvm.Cond.castable "LibraryDesk$BitsThing" "LibraryDesk$Thing") ∈ lw_tbl := lw_at lw_m24 132 rfl
theorem in_X26 : ∀ w ∈ wsX260, w ∈ lw_all := lw_in wsX260 [1619, 1620, 1617] (by decide +kernel) (by decide +kernel)

/-! LibraryDesk$TextThing -/
set_option maxRecDepth 100000
def RX27 : String := "LibraryDesk$TextThing"
def TX27 : u_T := fun k => match k with
  | 0 => ("LibraryDesk$Thing", "kind", "I", true)
  | 1 => ("LibraryDesk$Thing", "used", "Z", false)
  | 2 => ("LibraryDesk$TextThing", "row", "[B", true)
  | _ => ("LibraryDesk$TextThing", "size", "I", false)
def tyX27 : Nat → FieldType := fun k => match k with
  | 0 => .int
  | 1 => .boolean
  | 2 => .array .byte
  | _ => .int
abbrev wsX270 : List Cond := u_ws RX27 TX27 4
theorem nmX27 : ∀ a, a < 4 → ∀ b, b < 4 → a ≠ b → (TX27 a).2.1 ≠ (TX27 b).2.1 := by decide +kernel
theorem tyX27_ok : ∀ k, k < 4 → parseFieldDescriptor (TX27 k).2.2.1 = some (tyX27 k) := by decide +kernel
abbrev cX27_init : ByteArray := prog_32_method_1_code
def yX27_init : MethodName := ⟨RX27, "<init>", "()V"⟩
def dkwX27_init_0 : List UInt8 := [42, 16, 7, 183, 0, 3, 42, 17, 15, 160, 188, 8, 181, 0, 9, 177]
abbrev dktX27_init_0 : List UInt8 := dkwX27_init_0 ++ []
theorem dksX27_init_0 : cX27_init.data.toList.drop 0 = dktX27_init_0 := by decide +kernel
theorem dX27_init_0 : decode cX27_init 0 = .ok (.aload_n 0, 1) := dk_42 (dk_at dksX27_init_0 0 rfl rfl)
theorem dX27_init_1 : decode cX27_init 1 = .ok (.bipush 7, 2) := dk_16 7 (dk_at dksX27_init_0 1 rfl rfl)
theorem dX27_init_3 : decode cX27_init 3 = .ok (.invokespecial 3, 3) := dk_183 0 3 (dk_at dksX27_init_0 3 rfl rfl)
theorem dX27_init_6 : decode cX27_init 6 = .ok (.aload_n 0, 1) := dk_42 (dk_at dksX27_init_0 6 rfl rfl)
theorem dX27_init_7 : decode cX27_init 7 = .ok (.sipush 4000, 3) := dk_17 15 160 (dk_at dksX27_init_0 7 rfl rfl)
theorem dX27_init_10 : decode cX27_init 10 = .ok (.newarray .byte, 2) := dk_188_8 (dk_at dksX27_init_0 10 rfl rfl)
theorem dX27_init_12 : decode cX27_init 12 = .ok (.putfield 9, 3) := dk_181 0 9 (dk_at dksX27_init_0 12 rfl rfl)
theorem dX27_init_15 : decode cX27_init 15 = .ok (.return_, 1) := dk_177 (dk_at dksX27_init_0 15 rfl rfl)
abbrev cX27_begin : ByteArray := prog_32_method_2_code
def yX27_begin : MethodName := ⟨RX27, "begin", "()V"⟩
def dkwX27_begin_0 : List UInt8 := [42, 3, 181, 0, 15, 177]
abbrev dktX27_begin_0 : List UInt8 := dkwX27_begin_0 ++ []
theorem dksX27_begin_0 : cX27_begin.data.toList.drop 0 = dktX27_begin_0 := by decide +kernel
theorem dX27_begin_0 : decode cX27_begin 0 = .ok (.aload_n 0, 1) := dk_42 (dk_at dksX27_begin_0 0 rfl rfl)
theorem dX27_begin_1 : decode cX27_begin 1 = .ok (.iconst 0, 1) := dk_3 (dk_at dksX27_begin_0 1 rfl rfl)
theorem dX27_begin_2 : decode cX27_begin 2 = .ok (.putfield 15, 3) := dk_181 0 15 (dk_at dksX27_begin_0 2 rfl rfl)
theorem dX27_begin_5 : decode cX27_begin 5 = .ok (.return_, 1) := dk_177 (dk_at dksX27_begin_0 5 rfl rfl)
abbrev cX27_compare : ByteArray := prog_32_method_8_code
def yX27_compare : MethodName := ⟨RX27, "compare", "(LLibraryDesk$TextThing;)I"⟩
def dkwX27_compare_2 : List UInt8 := [167, 255, 210, 42, 180, 0, 15, 43, 180, 0, 15, 100, 172]
abbrev dktX27_compare_2 : List UInt8 := dkwX27_compare_2 ++ []
def dkwX27_compare_1 : List UInt8 := [43, 180, 0, 9, 28, 51, 159, 0, 15, 42, 28, 182, 0, 33, 43, 28, 182, 0, 33, 100, 172, 132, 2, 1]
abbrev dktX27_compare_1 : List UInt8 := dkwX27_compare_1 ++ dktX27_compare_2
def dkwX27_compare_0 : List UInt8 := [3, 61, 28, 42, 180, 0, 15, 162, 0, 44, 28, 43, 180, 0, 15, 162, 0, 36, 42, 180, 0, 9, 28, 51]
abbrev dktX27_compare_0 : List UInt8 := dkwX27_compare_0 ++ dktX27_compare_1
theorem dksX27_compare_0 : cX27_compare.data.toList.drop 0 = dktX27_compare_0 := by decide +kernel
theorem dksX27_compare_1 : cX27_compare.data.toList.drop 24 = dktX27_compare_1 := dk_seg dksX27_compare_0 24 rfl rfl
theorem dksX27_compare_2 : cX27_compare.data.toList.drop 48 = dktX27_compare_2 := dk_seg dksX27_compare_1 24 rfl rfl
theorem dX27_compare_0 : decode cX27_compare 0 = .ok (.iconst 0, 1) := dk_3 (dk_at dksX27_compare_0 0 rfl rfl)
theorem dX27_compare_1 : decode cX27_compare 1 = .ok (.istore_n 2, 1) := dk_61 (dk_at dksX27_compare_0 1 rfl rfl)
theorem dX27_compare_2 : decode cX27_compare 2 = .ok (.iload_n 2, 1) := dk_28 (dk_at dksX27_compare_0 2 rfl rfl)
theorem dX27_compare_3 : decode cX27_compare 3 = .ok (.aload_n 0, 1) := dk_42 (dk_at dksX27_compare_0 3 rfl rfl)
theorem dX27_compare_4 : decode cX27_compare 4 = .ok (.getfield 15, 3) := dk_180 0 15 (dk_at dksX27_compare_0 4 rfl rfl)
theorem dX27_compare_7 : decode cX27_compare 7 = .ok (.if_icmp .ge 44, 3) := dk_162 0 44 (dk_at dksX27_compare_0 7 rfl rfl)
theorem dX27_compare_10 : decode cX27_compare 10 = .ok (.iload_n 2, 1) := dk_28 (dk_at dksX27_compare_0 10 rfl rfl)
theorem dX27_compare_11 : decode cX27_compare 11 = .ok (.aload_n 1, 1) := dk_43 (dk_at dksX27_compare_0 11 rfl rfl)
theorem dX27_compare_12 : decode cX27_compare 12 = .ok (.getfield 15, 3) := dk_180 0 15 (dk_at dksX27_compare_0 12 rfl rfl)
theorem dX27_compare_15 : decode cX27_compare 15 = .ok (.if_icmp .ge 36, 3) := dk_162 0 36 (dk_at dksX27_compare_0 15 rfl rfl)
theorem dX27_compare_18 : decode cX27_compare 18 = .ok (.aload_n 0, 1) := dk_42 (dk_at dksX27_compare_0 18 rfl rfl)
theorem dX27_compare_19 : decode cX27_compare 19 = .ok (.getfield 9, 3) := dk_180 0 9 (dk_at dksX27_compare_0 19 rfl rfl)
theorem dX27_compare_22 : decode cX27_compare 22 = .ok (.iload_n 2, 1) := dk_28 (dk_at dksX27_compare_0 22 rfl rfl)
theorem dX27_compare_23 : decode cX27_compare 23 = .ok (.baload, 1) := dk_51 (dk_at dksX27_compare_0 23 rfl rfl)
theorem dX27_compare_24 : decode cX27_compare 24 = .ok (.aload_n 1, 1) := dk_43 (dk_at dksX27_compare_1 0 rfl rfl)
theorem dX27_compare_25 : decode cX27_compare 25 = .ok (.getfield 9, 3) := dk_180 0 9 (dk_at dksX27_compare_1 1 rfl rfl)
theorem dX27_compare_28 : decode cX27_compare 28 = .ok (.iload_n 2, 1) := dk_28 (dk_at dksX27_compare_1 4 rfl rfl)
theorem dX27_compare_29 : decode cX27_compare 29 = .ok (.baload, 1) := dk_51 (dk_at dksX27_compare_1 5 rfl rfl)
theorem dX27_compare_30 : decode cX27_compare 30 = .ok (.if_icmp .eq 15, 3) := dk_159 0 15 (dk_at dksX27_compare_1 6 rfl rfl)
theorem dX27_compare_33 : decode cX27_compare 33 = .ok (.aload_n 0, 1) := dk_42 (dk_at dksX27_compare_1 9 rfl rfl)
theorem dX27_compare_34 : decode cX27_compare 34 = .ok (.iload_n 2, 1) := dk_28 (dk_at dksX27_compare_1 10 rfl rfl)
theorem dX27_compare_35 : decode cX27_compare 35 = .ok (.invokevirtual 33, 3) := dk_182 0 33 (dk_at dksX27_compare_1 11 rfl rfl)
theorem dX27_compare_38 : decode cX27_compare 38 = .ok (.aload_n 1, 1) := dk_43 (dk_at dksX27_compare_1 14 rfl rfl)
theorem dX27_compare_39 : decode cX27_compare 39 = .ok (.iload_n 2, 1) := dk_28 (dk_at dksX27_compare_1 15 rfl rfl)
theorem dX27_compare_40 : decode cX27_compare 40 = .ok (.invokevirtual 33, 3) := dk_182 0 33 (dk_at dksX27_compare_1 16 rfl rfl)
theorem dX27_compare_43 : decode cX27_compare 43 = .ok (.isub, 1) := dk_100 (dk_at dksX27_compare_1 19 rfl rfl)
theorem dX27_compare_44 : decode cX27_compare 44 = .ok (.ireturn, 1) := dk_172 (dk_at dksX27_compare_1 20 rfl rfl)
theorem dX27_compare_45 : decode cX27_compare 45 = .ok (.iinc 2 1, 3) := dk_132 2 1 (dk_at dksX27_compare_1 21 rfl rfl)
theorem dX27_compare_48 : decode cX27_compare 48 = .ok (.goto (-46), 3) := dk_167 255 210 (dk_at dksX27_compare_2 0 rfl rfl)
theorem dX27_compare_51 : decode cX27_compare 51 = .ok (.aload_n 0, 1) := dk_42 (dk_at dksX27_compare_2 3 rfl rfl)
theorem dX27_compare_52 : decode cX27_compare 52 = .ok (.getfield 15, 3) := dk_180 0 15 (dk_at dksX27_compare_2 4 rfl rfl)
theorem dX27_compare_55 : decode cX27_compare 55 = .ok (.aload_n 1, 1) := dk_43 (dk_at dksX27_compare_2 7 rfl rfl)
theorem dX27_compare_56 : decode cX27_compare 56 = .ok (.getfield 15, 3) := dk_180 0 15 (dk_at dksX27_compare_2 8 rfl rfl)
theorem dX27_compare_59 : decode cX27_compare 59 = .ok (.isub, 1) := dk_100 (dk_at dksX27_compare_2 11 rfl rfl)
theorem dX27_compare_60 : decode cX27_compare 60 = .ok (.ireturn, 1) := dk_172 (dk_at dksX27_compare_2 12 rfl rfl)
abbrev cX27_get : ByteArray := prog_32_method_3_code
def yX27_get : MethodName := ⟨RX27, "get", "(I)I"⟩
def dkwX27_get_0 : List UInt8 := [42, 180, 0, 9, 27, 51, 17, 0, 255, 126, 172]
abbrev dktX27_get_0 : List UInt8 := dkwX27_get_0 ++ []
theorem dksX27_get_0 : cX27_get.data.toList.drop 0 = dktX27_get_0 := by decide +kernel
theorem dX27_get_0 : decode cX27_get 0 = .ok (.aload_n 0, 1) := dk_42 (dk_at dksX27_get_0 0 rfl rfl)
theorem dX27_get_1 : decode cX27_get 1 = .ok (.getfield 9, 3) := dk_180 0 9 (dk_at dksX27_get_0 1 rfl rfl)
theorem dX27_get_4 : decode cX27_get 4 = .ok (.iload_n 1, 1) := dk_27 (dk_at dksX27_get_0 4 rfl rfl)
theorem dX27_get_5 : decode cX27_get 5 = .ok (.baload, 1) := dk_51 (dk_at dksX27_get_0 5 rfl rfl)
theorem dX27_get_6 : decode cX27_get 6 = .ok (.sipush 255, 3) := dk_17 0 255 (dk_at dksX27_get_0 6 rfl rfl)
theorem dX27_get_9 : decode cX27_get 9 = .ok (.iand, 1) := dk_126 (dk_at dksX27_get_0 9 rfl rfl)
theorem dX27_get_10 : decode cX27_get 10 = .ok (.ireturn, 1) := dk_172 (dk_at dksX27_get_0 10 rfl rfl)
abbrev cX27_call : ByteArray := prog_32_method_22_code
def yX27_call : MethodName := ⟨RX27, "call", "(III[BILLibraryDesk$Out;)I"⟩
def dkwX27_call_11 : List UInt8 := [21, 5, 182, 0, 99, 172, 42, 27, 25, 6, 182, 0, 103, 172]
abbrev dktX27_call_11 : List UInt8 := dkwX27_call_11 ++ []
def dkwX27_call_10 : List UInt8 := [182, 0, 86, 172, 42, 182, 0, 90, 172, 42, 28, 182, 0, 93, 172, 42, 182, 0, 96, 172, 42, 25, 4]
abbrev dktX27_call_10 : List UInt8 := dkwX27_call_10 ++ dktX27_call_11
def dkwX27_call_9 : List UInt8 := [172, 42, 180, 0, 15, 172, 42, 28, 182, 0, 83, 172, 42, 27, 16, 13, 160, 0, 7, 4, 167, 0, 4, 3]
abbrev dktX27_call_9 : List UInt8 := dkwX27_call_9 ++ dktX27_call_10
def dkwX27_call_8 : List UInt8 := [42, 28, 25, 4, 21, 5, 182, 0, 73, 172, 42, 28, 25, 4, 21, 5, 182, 0, 77, 172, 42, 182, 0, 80]
abbrev dktX27_call_8 : List UInt8 := dkwX27_call_8 ++ dktX27_call_9
def dkwX27_call_7 : List UInt8 := [42, 28, 182, 0, 33, 54, 7, 27, 16, 6, 160, 0, 11, 42, 180, 0, 9, 28, 29, 145, 84, 21, 7, 172]
abbrev dktX27_call_7 : List UInt8 := dkwX27_call_7 ++ dktX27_call_8
def dkwX27_call_6 : List UInt8 := [182, 0, 69, 172, 28, 155, 0, 15, 28, 42, 180, 0, 15, 162, 0, 7, 4, 167, 0, 4, 3, 184, 0, 66]
abbrev dktX27_call_6 : List UInt8 := dkwX27_call_6 ++ dktX27_call_7
def dkwX27_call_5 : List UInt8 := [184, 0, 66, 42, 28, 29, 25, 4, 27, 6, 160, 0, 8, 21, 5, 167, 0, 4, 3, 182, 0, 62, 172, 42]
abbrev dktX27_call_5 : List UInt8 := dkwX27_call_5 ++ dktX27_call_6
def dkwX27_call_4 : List UInt8 := [172, 3, 28, 163, 0, 20, 28, 29, 163, 0, 15, 29, 42, 180, 0, 15, 163, 0, 7, 4, 167, 0, 4, 3]
abbrev dktX27_call_4 : List UInt8 := dkwX27_call_4 ++ dktX27_call_5
def dkwX27_call_3 : List UInt8 := [180, 0, 15, 163, 0, 7, 4, 167, 0, 4, 3, 184, 0, 66, 42, 28, 28, 25, 4, 21, 5, 182, 0, 62]
abbrev dktX27_call_3 : List UInt8 := dkwX27_call_3 ++ dktX27_call_4
def dkwX27_call_2 : List UInt8 := [42, 42, 180, 0, 15, 42, 180, 0, 15, 25, 4, 21, 5, 182, 0, 62, 172, 28, 155, 0, 15, 28, 42]
abbrev dktX27_call_2 : List UInt8 := dkwX27_call_2 ++ dktX27_call_3
def dkwX27_call_1 : List UInt8 := [170, 0, 0, 0, 0, 1, 63, 0, 0, 0, 0, 0, 0, 0, 20, 0, 0, 0, 99, 0, 0, 0, 116, 0, 0, 0, 147, 0, 0, 0, 147, 0, 0, 0, 193, 0, 0, 0, 198, 0, 0, 0, 198, 0, 0, 0, 242, 0, 0, 0, 252, 0, 0, 1, 63, 0, 0, 1, 6, 0, 0, 1, 11, 0, 0, 1, 16, 0, 0, 1, 22, 0, 0, 1, 22, 0, 0, 1, 38, 0, 0, 1, 63, 0, 0, 1, 43, 0, 0, 1, 49, 0, 0, 1, 63, 0, 0, 1, 54]
abbrev dktX27_call_1 : List UInt8 := dkwX27_call_1 ++ dktX27_call_2
def dkwX27_call_0 : List UInt8 := [27]
abbrev dktX27_call_0 : List UInt8 := dkwX27_call_0 ++ dktX27_call_1
theorem dksX27_call_0 : cX27_call.data.toList.drop 0 = dktX27_call_0 := by decide +kernel
theorem dksX27_call_1 : cX27_call.data.toList.drop 1 = dktX27_call_1 := dk_seg dksX27_call_0 1 rfl rfl
theorem dksX27_call_2 : cX27_call.data.toList.drop 100 = dktX27_call_2 := dk_seg dksX27_call_1 99 rfl rfl
theorem dksX27_call_3 : cX27_call.data.toList.drop 123 = dktX27_call_3 := dk_seg dksX27_call_2 23 rfl rfl
theorem dksX27_call_4 : cX27_call.data.toList.drop 147 = dktX27_call_4 := dk_seg dksX27_call_3 24 rfl rfl
theorem dksX27_call_5 : cX27_call.data.toList.drop 171 = dktX27_call_5 := dk_seg dksX27_call_4 24 rfl rfl
theorem dksX27_call_6 : cX27_call.data.toList.drop 195 = dktX27_call_6 := dk_seg dksX27_call_5 24 rfl rfl
theorem dksX27_call_7 : cX27_call.data.toList.drop 219 = dktX27_call_7 := dk_seg dksX27_call_6 24 rfl rfl
theorem dksX27_call_8 : cX27_call.data.toList.drop 243 = dktX27_call_8 := dk_seg dksX27_call_7 24 rfl rfl
theorem dksX27_call_9 : cX27_call.data.toList.drop 267 = dktX27_call_9 := dk_seg dksX27_call_8 24 rfl rfl
theorem dksX27_call_10 : cX27_call.data.toList.drop 291 = dktX27_call_10 := dk_seg dksX27_call_9 24 rfl rfl
theorem dksX27_call_11 : cX27_call.data.toList.drop 314 = dktX27_call_11 := dk_seg dksX27_call_10 23 rfl rfl
theorem dX27_call_0 : decode cX27_call 0 = .ok (.iload_n 1, 1) := dk_27 (dk_at dksX27_call_0 0 rfl rfl)
theorem dX27_call_1 : decode cX27_call 1 = .ok (.tableswitch 319 0 20 #[99, 116, 147, 147, 193, 198, 198, 242, 252, 319, 262, 267, 272, 278, 278, 294, 319, 299, 305, 319, 310], 99) := by decide +kernel
theorem dX27_call_100 : decode cX27_call 100 = .ok (.aload_n 0, 1) := dk_42 (dk_at dksX27_call_2 0 rfl rfl)
theorem dX27_call_101 : decode cX27_call 101 = .ok (.aload_n 0, 1) := dk_42 (dk_at dksX27_call_2 1 rfl rfl)
theorem dX27_call_102 : decode cX27_call 102 = .ok (.getfield 15, 3) := dk_180 0 15 (dk_at dksX27_call_2 2 rfl rfl)
theorem dX27_call_105 : decode cX27_call 105 = .ok (.aload_n 0, 1) := dk_42 (dk_at dksX27_call_2 5 rfl rfl)
theorem dX27_call_106 : decode cX27_call 106 = .ok (.getfield 15, 3) := dk_180 0 15 (dk_at dksX27_call_2 6 rfl rfl)
theorem dX27_call_109 : decode cX27_call 109 = .ok (.aload 4, 2) := dk_25 4 (dk_at dksX27_call_2 9 rfl rfl)
theorem dX27_call_111 : decode cX27_call 111 = .ok (.iload 5, 2) := dk_21 5 (dk_at dksX27_call_2 11 rfl rfl)
theorem dX27_call_113 : decode cX27_call 113 = .ok (.invokevirtual 62, 3) := dk_182 0 62 (dk_at dksX27_call_2 13 rfl rfl)
theorem dX27_call_116 : decode cX27_call 116 = .ok (.ireturn, 1) := dk_172 (dk_at dksX27_call_2 16 rfl rfl)
theorem dX27_call_117 : decode cX27_call 117 = .ok (.iload_n 2, 1) := dk_28 (dk_at dksX27_call_2 17 rfl rfl)
theorem dX27_call_118 : decode cX27_call 118 = .ok (.ifCond .lt 15, 3) := dk_155 0 15 (dk_at dksX27_call_2 18 rfl rfl)
theorem dX27_call_121 : decode cX27_call 121 = .ok (.iload_n 2, 1) := dk_28 (dk_at dksX27_call_2 21 rfl rfl)
theorem dX27_call_122 : decode cX27_call 122 = .ok (.aload_n 0, 1) := dk_42 (dk_at dksX27_call_2 22 rfl rfl)
theorem dX27_call_123 : decode cX27_call 123 = .ok (.getfield 15, 3) := dk_180 0 15 (dk_at dksX27_call_3 0 rfl rfl)
theorem dX27_call_126 : decode cX27_call 126 = .ok (.if_icmp .gt 7, 3) := dk_163 0 7 (dk_at dksX27_call_3 3 rfl rfl)
theorem dX27_call_129 : decode cX27_call 129 = .ok (.iconst 1, 1) := dk_4 (dk_at dksX27_call_3 6 rfl rfl)
theorem dX27_call_130 : decode cX27_call 130 = .ok (.goto 4, 3) := dk_167 0 4 (dk_at dksX27_call_3 7 rfl rfl)
theorem dX27_call_133 : decode cX27_call 133 = .ok (.iconst 0, 1) := dk_3 (dk_at dksX27_call_3 10 rfl rfl)
theorem dX27_call_134 : decode cX27_call 134 = .ok (.invokestatic 66, 3) := dk_184 0 66 (dk_at dksX27_call_3 11 rfl rfl)
theorem dX27_call_137 : decode cX27_call 137 = .ok (.aload_n 0, 1) := dk_42 (dk_at dksX27_call_3 14 rfl rfl)
theorem dX27_call_138 : decode cX27_call 138 = .ok (.iload_n 2, 1) := dk_28 (dk_at dksX27_call_3 15 rfl rfl)
theorem dX27_call_139 : decode cX27_call 139 = .ok (.iload_n 2, 1) := dk_28 (dk_at dksX27_call_3 16 rfl rfl)
theorem dX27_call_140 : decode cX27_call 140 = .ok (.aload 4, 2) := dk_25 4 (dk_at dksX27_call_3 17 rfl rfl)
theorem dX27_call_142 : decode cX27_call 142 = .ok (.iload 5, 2) := dk_21 5 (dk_at dksX27_call_3 19 rfl rfl)
theorem dX27_call_144 : decode cX27_call 144 = .ok (.invokevirtual 62, 3) := dk_182 0 62 (dk_at dksX27_call_3 21 rfl rfl)
theorem dX27_call_147 : decode cX27_call 147 = .ok (.ireturn, 1) := dk_172 (dk_at dksX27_call_4 0 rfl rfl)
theorem dX27_call_148 : decode cX27_call 148 = .ok (.iconst 0, 1) := dk_3 (dk_at dksX27_call_4 1 rfl rfl)
theorem dX27_call_149 : decode cX27_call 149 = .ok (.iload_n 2, 1) := dk_28 (dk_at dksX27_call_4 2 rfl rfl)
theorem dX27_call_150 : decode cX27_call 150 = .ok (.if_icmp .gt 20, 3) := dk_163 0 20 (dk_at dksX27_call_4 3 rfl rfl)
theorem dX27_call_153 : decode cX27_call 153 = .ok (.iload_n 2, 1) := dk_28 (dk_at dksX27_call_4 6 rfl rfl)
theorem dX27_call_154 : decode cX27_call 154 = .ok (.iload_n 3, 1) := dk_29 (dk_at dksX27_call_4 7 rfl rfl)
theorem dX27_call_155 : decode cX27_call 155 = .ok (.if_icmp .gt 15, 3) := dk_163 0 15 (dk_at dksX27_call_4 8 rfl rfl)
theorem dX27_call_158 : decode cX27_call 158 = .ok (.iload_n 3, 1) := dk_29 (dk_at dksX27_call_4 11 rfl rfl)
theorem dX27_call_159 : decode cX27_call 159 = .ok (.aload_n 0, 1) := dk_42 (dk_at dksX27_call_4 12 rfl rfl)
theorem dX27_call_160 : decode cX27_call 160 = .ok (.getfield 15, 3) := dk_180 0 15 (dk_at dksX27_call_4 13 rfl rfl)
theorem dX27_call_163 : decode cX27_call 163 = .ok (.if_icmp .gt 7, 3) := dk_163 0 7 (dk_at dksX27_call_4 16 rfl rfl)
theorem dX27_call_166 : decode cX27_call 166 = .ok (.iconst 1, 1) := dk_4 (dk_at dksX27_call_4 19 rfl rfl)
theorem dX27_call_167 : decode cX27_call 167 = .ok (.goto 4, 3) := dk_167 0 4 (dk_at dksX27_call_4 20 rfl rfl)
theorem dX27_call_170 : decode cX27_call 170 = .ok (.iconst 0, 1) := dk_3 (dk_at dksX27_call_4 23 rfl rfl)
theorem dX27_call_171 : decode cX27_call 171 = .ok (.invokestatic 66, 3) := dk_184 0 66 (dk_at dksX27_call_5 0 rfl rfl)
theorem dX27_call_174 : decode cX27_call 174 = .ok (.aload_n 0, 1) := dk_42 (dk_at dksX27_call_5 3 rfl rfl)
theorem dX27_call_175 : decode cX27_call 175 = .ok (.iload_n 2, 1) := dk_28 (dk_at dksX27_call_5 4 rfl rfl)
theorem dX27_call_176 : decode cX27_call 176 = .ok (.iload_n 3, 1) := dk_29 (dk_at dksX27_call_5 5 rfl rfl)
theorem dX27_call_177 : decode cX27_call 177 = .ok (.aload 4, 2) := dk_25 4 (dk_at dksX27_call_5 6 rfl rfl)
theorem dX27_call_179 : decode cX27_call 179 = .ok (.iload_n 1, 1) := dk_27 (dk_at dksX27_call_5 8 rfl rfl)
theorem dX27_call_180 : decode cX27_call 180 = .ok (.iconst 3, 1) := dk_6 (dk_at dksX27_call_5 9 rfl rfl)
theorem dX27_call_181 : decode cX27_call 181 = .ok (.if_icmp .ne 8, 3) := dk_160 0 8 (dk_at dksX27_call_5 10 rfl rfl)
theorem dX27_call_184 : decode cX27_call 184 = .ok (.iload 5, 2) := dk_21 5 (dk_at dksX27_call_5 13 rfl rfl)
theorem dX27_call_186 : decode cX27_call 186 = .ok (.goto 4, 3) := dk_167 0 4 (dk_at dksX27_call_5 15 rfl rfl)
theorem dX27_call_189 : decode cX27_call 189 = .ok (.iconst 0, 1) := dk_3 (dk_at dksX27_call_5 18 rfl rfl)
theorem dX27_call_190 : decode cX27_call 190 = .ok (.invokevirtual 62, 3) := dk_182 0 62 (dk_at dksX27_call_5 19 rfl rfl)
theorem dX27_call_193 : decode cX27_call 193 = .ok (.ireturn, 1) := dk_172 (dk_at dksX27_call_5 22 rfl rfl)
theorem dX27_call_194 : decode cX27_call 194 = .ok (.aload_n 0, 1) := dk_42 (dk_at dksX27_call_5 23 rfl rfl)
theorem dX27_call_195 : decode cX27_call 195 = .ok (.invokevirtual 69, 3) := dk_182 0 69 (dk_at dksX27_call_6 0 rfl rfl)
theorem dX27_call_198 : decode cX27_call 198 = .ok (.ireturn, 1) := dk_172 (dk_at dksX27_call_6 3 rfl rfl)
theorem dX27_call_199 : decode cX27_call 199 = .ok (.iload_n 2, 1) := dk_28 (dk_at dksX27_call_6 4 rfl rfl)
theorem dX27_call_200 : decode cX27_call 200 = .ok (.ifCond .lt 15, 3) := dk_155 0 15 (dk_at dksX27_call_6 5 rfl rfl)
theorem dX27_call_203 : decode cX27_call 203 = .ok (.iload_n 2, 1) := dk_28 (dk_at dksX27_call_6 8 rfl rfl)
theorem dX27_call_204 : decode cX27_call 204 = .ok (.aload_n 0, 1) := dk_42 (dk_at dksX27_call_6 9 rfl rfl)
theorem dX27_call_205 : decode cX27_call 205 = .ok (.getfield 15, 3) := dk_180 0 15 (dk_at dksX27_call_6 10 rfl rfl)
theorem dX27_call_208 : decode cX27_call 208 = .ok (.if_icmp .ge 7, 3) := dk_162 0 7 (dk_at dksX27_call_6 13 rfl rfl)
theorem dX27_call_211 : decode cX27_call 211 = .ok (.iconst 1, 1) := dk_4 (dk_at dksX27_call_6 16 rfl rfl)
theorem dX27_call_212 : decode cX27_call 212 = .ok (.goto 4, 3) := dk_167 0 4 (dk_at dksX27_call_6 17 rfl rfl)
theorem dX27_call_215 : decode cX27_call 215 = .ok (.iconst 0, 1) := dk_3 (dk_at dksX27_call_6 20 rfl rfl)
theorem dX27_call_216 : decode cX27_call 216 = .ok (.invokestatic 66, 3) := dk_184 0 66 (dk_at dksX27_call_6 21 rfl rfl)
theorem dX27_call_219 : decode cX27_call 219 = .ok (.aload_n 0, 1) := dk_42 (dk_at dksX27_call_7 0 rfl rfl)
theorem dX27_call_220 : decode cX27_call 220 = .ok (.iload_n 2, 1) := dk_28 (dk_at dksX27_call_7 1 rfl rfl)
theorem dX27_call_221 : decode cX27_call 221 = .ok (.invokevirtual 33, 3) := dk_182 0 33 (dk_at dksX27_call_7 2 rfl rfl)
theorem dX27_call_224 : decode cX27_call 224 = .ok (.istore 7, 2) := dk_54 7 (dk_at dksX27_call_7 5 rfl rfl)
theorem dX27_call_226 : decode cX27_call 226 = .ok (.iload_n 1, 1) := dk_27 (dk_at dksX27_call_7 7 rfl rfl)
theorem dX27_call_227 : decode cX27_call 227 = .ok (.bipush 6, 2) := dk_16 6 (dk_at dksX27_call_7 8 rfl rfl)
theorem dX27_call_229 : decode cX27_call 229 = .ok (.if_icmp .ne 11, 3) := dk_160 0 11 (dk_at dksX27_call_7 10 rfl rfl)
theorem dX27_call_232 : decode cX27_call 232 = .ok (.aload_n 0, 1) := dk_42 (dk_at dksX27_call_7 13 rfl rfl)
theorem dX27_call_233 : decode cX27_call 233 = .ok (.getfield 9, 3) := dk_180 0 9 (dk_at dksX27_call_7 14 rfl rfl)
theorem dX27_call_236 : decode cX27_call 236 = .ok (.iload_n 2, 1) := dk_28 (dk_at dksX27_call_7 17 rfl rfl)
theorem dX27_call_237 : decode cX27_call 237 = .ok (.iload_n 3, 1) := dk_29 (dk_at dksX27_call_7 18 rfl rfl)
theorem dX27_call_238 : decode cX27_call 238 = .ok (.i2b, 1) := dk_145 (dk_at dksX27_call_7 19 rfl rfl)
theorem dX27_call_239 : decode cX27_call 239 = .ok (.bastore, 1) := dk_84 (dk_at dksX27_call_7 20 rfl rfl)
theorem dX27_call_240 : decode cX27_call 240 = .ok (.iload 7, 2) := dk_21 7 (dk_at dksX27_call_7 21 rfl rfl)
theorem dX27_call_242 : decode cX27_call 242 = .ok (.ireturn, 1) := dk_172 (dk_at dksX27_call_7 23 rfl rfl)
theorem dX27_call_243 : decode cX27_call 243 = .ok (.aload_n 0, 1) := dk_42 (dk_at dksX27_call_8 0 rfl rfl)
theorem dX27_call_244 : decode cX27_call 244 = .ok (.iload_n 2, 1) := dk_28 (dk_at dksX27_call_8 1 rfl rfl)
theorem dX27_call_245 : decode cX27_call 245 = .ok (.aload 4, 2) := dk_25 4 (dk_at dksX27_call_8 2 rfl rfl)
theorem dX27_call_247 : decode cX27_call 247 = .ok (.iload 5, 2) := dk_21 5 (dk_at dksX27_call_8 4 rfl rfl)
theorem dX27_call_249 : decode cX27_call 249 = .ok (.invokevirtual 73, 3) := dk_182 0 73 (dk_at dksX27_call_8 6 rfl rfl)
theorem dX27_call_252 : decode cX27_call 252 = .ok (.ireturn, 1) := dk_172 (dk_at dksX27_call_8 9 rfl rfl)
theorem dX27_call_253 : decode cX27_call 253 = .ok (.aload_n 0, 1) := dk_42 (dk_at dksX27_call_8 10 rfl rfl)
theorem dX27_call_254 : decode cX27_call 254 = .ok (.iload_n 2, 1) := dk_28 (dk_at dksX27_call_8 11 rfl rfl)
theorem dX27_call_255 : decode cX27_call 255 = .ok (.aload 4, 2) := dk_25 4 (dk_at dksX27_call_8 12 rfl rfl)
theorem dX27_call_257 : decode cX27_call 257 = .ok (.iload 5, 2) := dk_21 5 (dk_at dksX27_call_8 14 rfl rfl)
theorem dX27_call_259 : decode cX27_call 259 = .ok (.invokevirtual 77, 3) := dk_182 0 77 (dk_at dksX27_call_8 16 rfl rfl)
theorem dX27_call_262 : decode cX27_call 262 = .ok (.ireturn, 1) := dk_172 (dk_at dksX27_call_8 19 rfl rfl)
theorem dX27_call_263 : decode cX27_call 263 = .ok (.aload_n 0, 1) := dk_42 (dk_at dksX27_call_8 20 rfl rfl)
theorem dX27_call_264 : decode cX27_call 264 = .ok (.invokevirtual 80, 3) := dk_182 0 80 (dk_at dksX27_call_8 21 rfl rfl)
theorem dX27_call_267 : decode cX27_call 267 = .ok (.ireturn, 1) := dk_172 (dk_at dksX27_call_9 0 rfl rfl)
theorem dX27_call_268 : decode cX27_call 268 = .ok (.aload_n 0, 1) := dk_42 (dk_at dksX27_call_9 1 rfl rfl)
theorem dX27_call_269 : decode cX27_call 269 = .ok (.getfield 15, 3) := dk_180 0 15 (dk_at dksX27_call_9 2 rfl rfl)
theorem dX27_call_272 : decode cX27_call 272 = .ok (.ireturn, 1) := dk_172 (dk_at dksX27_call_9 5 rfl rfl)
theorem dX27_call_273 : decode cX27_call 273 = .ok (.aload_n 0, 1) := dk_42 (dk_at dksX27_call_9 6 rfl rfl)
theorem dX27_call_274 : decode cX27_call 274 = .ok (.iload_n 2, 1) := dk_28 (dk_at dksX27_call_9 7 rfl rfl)
theorem dX27_call_275 : decode cX27_call 275 = .ok (.invokevirtual 83, 3) := dk_182 0 83 (dk_at dksX27_call_9 8 rfl rfl)
theorem dX27_call_278 : decode cX27_call 278 = .ok (.ireturn, 1) := dk_172 (dk_at dksX27_call_9 11 rfl rfl)
theorem dX27_call_279 : decode cX27_call 279 = .ok (.aload_n 0, 1) := dk_42 (dk_at dksX27_call_9 12 rfl rfl)
theorem dX27_call_280 : decode cX27_call 280 = .ok (.iload_n 1, 1) := dk_27 (dk_at dksX27_call_9 13 rfl rfl)
theorem dX27_call_281 : decode cX27_call 281 = .ok (.bipush 13, 2) := dk_16 13 (dk_at dksX27_call_9 14 rfl rfl)
theorem dX27_call_283 : decode cX27_call 283 = .ok (.if_icmp .ne 7, 3) := dk_160 0 7 (dk_at dksX27_call_9 16 rfl rfl)
theorem dX27_call_286 : decode cX27_call 286 = .ok (.iconst 1, 1) := dk_4 (dk_at dksX27_call_9 19 rfl rfl)
theorem dX27_call_287 : decode cX27_call 287 = .ok (.goto 4, 3) := dk_167 0 4 (dk_at dksX27_call_9 20 rfl rfl)
theorem dX27_call_290 : decode cX27_call 290 = .ok (.iconst 0, 1) := dk_3 (dk_at dksX27_call_9 23 rfl rfl)
theorem dX27_call_291 : decode cX27_call 291 = .ok (.invokevirtual 86, 3) := dk_182 0 86 (dk_at dksX27_call_10 0 rfl rfl)
theorem dX27_call_294 : decode cX27_call 294 = .ok (.ireturn, 1) := dk_172 (dk_at dksX27_call_10 3 rfl rfl)
theorem dX27_call_295 : decode cX27_call 295 = .ok (.aload_n 0, 1) := dk_42 (dk_at dksX27_call_10 4 rfl rfl)
theorem dX27_call_296 : decode cX27_call 296 = .ok (.invokevirtual 90, 3) := dk_182 0 90 (dk_at dksX27_call_10 5 rfl rfl)
theorem dX27_call_299 : decode cX27_call 299 = .ok (.ireturn, 1) := dk_172 (dk_at dksX27_call_10 8 rfl rfl)
theorem dX27_call_300 : decode cX27_call 300 = .ok (.aload_n 0, 1) := dk_42 (dk_at dksX27_call_10 9 rfl rfl)
theorem dX27_call_301 : decode cX27_call 301 = .ok (.iload_n 2, 1) := dk_28 (dk_at dksX27_call_10 10 rfl rfl)
theorem dX27_call_302 : decode cX27_call 302 = .ok (.invokevirtual 93, 3) := dk_182 0 93 (dk_at dksX27_call_10 11 rfl rfl)
theorem dX27_call_305 : decode cX27_call 305 = .ok (.ireturn, 1) := dk_172 (dk_at dksX27_call_10 14 rfl rfl)
theorem dX27_call_306 : decode cX27_call 306 = .ok (.aload_n 0, 1) := dk_42 (dk_at dksX27_call_10 15 rfl rfl)
theorem dX27_call_307 : decode cX27_call 307 = .ok (.invokevirtual 96, 3) := dk_182 0 96 (dk_at dksX27_call_10 16 rfl rfl)
theorem dX27_call_310 : decode cX27_call 310 = .ok (.ireturn, 1) := dk_172 (dk_at dksX27_call_10 19 rfl rfl)
theorem dX27_call_311 : decode cX27_call 311 = .ok (.aload_n 0, 1) := dk_42 (dk_at dksX27_call_10 20 rfl rfl)
theorem dX27_call_312 : decode cX27_call 312 = .ok (.aload 4, 2) := dk_25 4 (dk_at dksX27_call_10 21 rfl rfl)
theorem dX27_call_314 : decode cX27_call 314 = .ok (.iload 5, 2) := dk_21 5 (dk_at dksX27_call_11 0 rfl rfl)
theorem dX27_call_316 : decode cX27_call 316 = .ok (.invokevirtual 99, 3) := dk_182 0 99 (dk_at dksX27_call_11 2 rfl rfl)
theorem dX27_call_319 : decode cX27_call 319 = .ok (.ireturn, 1) := dk_172 (dk_at dksX27_call_11 5 rfl rfl)
theorem dX27_call_320 : decode cX27_call 320 = .ok (.aload_n 0, 1) := dk_42 (dk_at dksX27_call_11 6 rfl rfl)
theorem dX27_call_321 : decode cX27_call 321 = .ok (.iload_n 1, 1) := dk_27 (dk_at dksX27_call_11 7 rfl rfl)
theorem dX27_call_322 : decode cX27_call 322 = .ok (.aload 6, 2) := dk_25 6 (dk_at dksX27_call_11 8 rfl rfl)
theorem dX27_call_324 : decode cX27_call 324 = .ok (.invokevirtual 103, 3) := dk_182 0 103 (dk_at dksX27_call_11 10 rfl rfl)
theorem dX27_call_327 : decode cX27_call 327 = .ok (.ireturn, 1) := dk_172 (dk_at dksX27_call_11 13 rfl rfl)
abbrev cX27_splice : ByteArray := prog_32_method_4_code
def yX27_splice : MethodName := ⟨RX27, "splice", "(II[BI)I"⟩
def dkwX27_splice_3 : List UInt8 := [100, 100, 96, 181, 0, 15, 42, 180, 0, 15, 172]
abbrev dktX27_splice_3 : List UInt8 := dkwX27_splice_3 ++ []
def dkwX27_splice_2 : List UInt8 := [184, 0, 23, 45, 3, 42, 180, 0, 9, 27, 21, 4, 184, 0, 23, 42, 89, 180, 0, 15, 21, 4, 28, 27]
abbrev dktX27_splice_2 : List UInt8 := dkwX27_splice_2 ++ dktX27_splice_3
def dkwX27_splice_1 : List UInt8 := [184, 0, 19, 42, 180, 0, 9, 28, 42, 180, 0, 9, 27, 21, 4, 96, 42, 180, 0, 15, 28, 100]
abbrev dktX27_splice_1 : List UInt8 := dkwX27_splice_1 ++ dktX27_splice_2
def dkwX27_splice_0 : List UInt8 := [42, 180, 0, 15, 28, 27, 100, 100, 21, 4, 96, 17, 15, 160, 163, 0, 7, 4, 167, 0, 4, 3]
abbrev dktX27_splice_0 : List UInt8 := dkwX27_splice_0 ++ dktX27_splice_1
theorem dksX27_splice_0 : cX27_splice.data.toList.drop 0 = dktX27_splice_0 := by decide +kernel
theorem dksX27_splice_1 : cX27_splice.data.toList.drop 22 = dktX27_splice_1 := dk_seg dksX27_splice_0 22 rfl rfl
theorem dksX27_splice_2 : cX27_splice.data.toList.drop 44 = dktX27_splice_2 := dk_seg dksX27_splice_1 22 rfl rfl
theorem dksX27_splice_3 : cX27_splice.data.toList.drop 68 = dktX27_splice_3 := dk_seg dksX27_splice_2 24 rfl rfl
theorem dX27_splice_0 : decode cX27_splice 0 = .ok (.aload_n 0, 1) := dk_42 (dk_at dksX27_splice_0 0 rfl rfl)
theorem dX27_splice_1 : decode cX27_splice 1 = .ok (.getfield 15, 3) := dk_180 0 15 (dk_at dksX27_splice_0 1 rfl rfl)
theorem dX27_splice_4 : decode cX27_splice 4 = .ok (.iload_n 2, 1) := dk_28 (dk_at dksX27_splice_0 4 rfl rfl)
theorem dX27_splice_5 : decode cX27_splice 5 = .ok (.iload_n 1, 1) := dk_27 (dk_at dksX27_splice_0 5 rfl rfl)
theorem dX27_splice_6 : decode cX27_splice 6 = .ok (.isub, 1) := dk_100 (dk_at dksX27_splice_0 6 rfl rfl)
theorem dX27_splice_7 : decode cX27_splice 7 = .ok (.isub, 1) := dk_100 (dk_at dksX27_splice_0 7 rfl rfl)
theorem dX27_splice_8 : decode cX27_splice 8 = .ok (.iload 4, 2) := dk_21 4 (dk_at dksX27_splice_0 8 rfl rfl)
theorem dX27_splice_10 : decode cX27_splice 10 = .ok (.iadd, 1) := dk_96 (dk_at dksX27_splice_0 10 rfl rfl)
theorem dX27_splice_11 : decode cX27_splice 11 = .ok (.sipush 4000, 3) := dk_17 15 160 (dk_at dksX27_splice_0 11 rfl rfl)
theorem dX27_splice_14 : decode cX27_splice 14 = .ok (.if_icmp .gt 7, 3) := dk_163 0 7 (dk_at dksX27_splice_0 14 rfl rfl)
theorem dX27_splice_17 : decode cX27_splice 17 = .ok (.iconst 1, 1) := dk_4 (dk_at dksX27_splice_0 17 rfl rfl)
theorem dX27_splice_18 : decode cX27_splice 18 = .ok (.goto 4, 3) := dk_167 0 4 (dk_at dksX27_splice_0 18 rfl rfl)
theorem dX27_splice_21 : decode cX27_splice 21 = .ok (.iconst 0, 1) := dk_3 (dk_at dksX27_splice_0 21 rfl rfl)
theorem dX27_splice_22 : decode cX27_splice 22 = .ok (.invokestatic 19, 3) := dk_184 0 19 (dk_at dksX27_splice_1 0 rfl rfl)
theorem dX27_splice_25 : decode cX27_splice 25 = .ok (.aload_n 0, 1) := dk_42 (dk_at dksX27_splice_1 3 rfl rfl)
theorem dX27_splice_26 : decode cX27_splice 26 = .ok (.getfield 9, 3) := dk_180 0 9 (dk_at dksX27_splice_1 4 rfl rfl)
theorem dX27_splice_29 : decode cX27_splice 29 = .ok (.iload_n 2, 1) := dk_28 (dk_at dksX27_splice_1 7 rfl rfl)
theorem dX27_splice_30 : decode cX27_splice 30 = .ok (.aload_n 0, 1) := dk_42 (dk_at dksX27_splice_1 8 rfl rfl)
theorem dX27_splice_31 : decode cX27_splice 31 = .ok (.getfield 9, 3) := dk_180 0 9 (dk_at dksX27_splice_1 9 rfl rfl)
theorem dX27_splice_34 : decode cX27_splice 34 = .ok (.iload_n 1, 1) := dk_27 (dk_at dksX27_splice_1 12 rfl rfl)
theorem dX27_splice_35 : decode cX27_splice 35 = .ok (.iload 4, 2) := dk_21 4 (dk_at dksX27_splice_1 13 rfl rfl)
theorem dX27_splice_37 : decode cX27_splice 37 = .ok (.iadd, 1) := dk_96 (dk_at dksX27_splice_1 15 rfl rfl)
theorem dX27_splice_38 : decode cX27_splice 38 = .ok (.aload_n 0, 1) := dk_42 (dk_at dksX27_splice_1 16 rfl rfl)
theorem dX27_splice_39 : decode cX27_splice 39 = .ok (.getfield 15, 3) := dk_180 0 15 (dk_at dksX27_splice_1 17 rfl rfl)
theorem dX27_splice_42 : decode cX27_splice 42 = .ok (.iload_n 2, 1) := dk_28 (dk_at dksX27_splice_1 20 rfl rfl)
theorem dX27_splice_43 : decode cX27_splice 43 = .ok (.isub, 1) := dk_100 (dk_at dksX27_splice_1 21 rfl rfl)
theorem dX27_splice_44 : decode cX27_splice 44 = .ok (.invokestatic 23, 3) := dk_184 0 23 (dk_at dksX27_splice_2 0 rfl rfl)
theorem dX27_splice_47 : decode cX27_splice 47 = .ok (.aload_n 3, 1) := dk_45 (dk_at dksX27_splice_2 3 rfl rfl)
theorem dX27_splice_48 : decode cX27_splice 48 = .ok (.iconst 0, 1) := dk_3 (dk_at dksX27_splice_2 4 rfl rfl)
theorem dX27_splice_49 : decode cX27_splice 49 = .ok (.aload_n 0, 1) := dk_42 (dk_at dksX27_splice_2 5 rfl rfl)
theorem dX27_splice_50 : decode cX27_splice 50 = .ok (.getfield 9, 3) := dk_180 0 9 (dk_at dksX27_splice_2 6 rfl rfl)
theorem dX27_splice_53 : decode cX27_splice 53 = .ok (.iload_n 1, 1) := dk_27 (dk_at dksX27_splice_2 9 rfl rfl)
theorem dX27_splice_54 : decode cX27_splice 54 = .ok (.iload 4, 2) := dk_21 4 (dk_at dksX27_splice_2 10 rfl rfl)
theorem dX27_splice_56 : decode cX27_splice 56 = .ok (.invokestatic 23, 3) := dk_184 0 23 (dk_at dksX27_splice_2 12 rfl rfl)
theorem dX27_splice_59 : decode cX27_splice 59 = .ok (.aload_n 0, 1) := dk_42 (dk_at dksX27_splice_2 15 rfl rfl)
theorem dX27_splice_60 : decode cX27_splice 60 = .ok (.dup, 1) := dk_89 (dk_at dksX27_splice_2 16 rfl rfl)
theorem dX27_splice_61 : decode cX27_splice 61 = .ok (.getfield 15, 3) := dk_180 0 15 (dk_at dksX27_splice_2 17 rfl rfl)
theorem dX27_splice_64 : decode cX27_splice 64 = .ok (.iload 4, 2) := dk_21 4 (dk_at dksX27_splice_2 20 rfl rfl)
theorem dX27_splice_66 : decode cX27_splice 66 = .ok (.iload_n 2, 1) := dk_28 (dk_at dksX27_splice_2 22 rfl rfl)
theorem dX27_splice_67 : decode cX27_splice 67 = .ok (.iload_n 1, 1) := dk_27 (dk_at dksX27_splice_2 23 rfl rfl)
theorem dX27_splice_68 : decode cX27_splice 68 = .ok (.isub, 1) := dk_100 (dk_at dksX27_splice_3 0 rfl rfl)
theorem dX27_splice_69 : decode cX27_splice 69 = .ok (.isub, 1) := dk_100 (dk_at dksX27_splice_3 1 rfl rfl)
theorem dX27_splice_70 : decode cX27_splice 70 = .ok (.iadd, 1) := dk_96 (dk_at dksX27_splice_3 2 rfl rfl)
theorem dX27_splice_71 : decode cX27_splice 71 = .ok (.putfield 15, 3) := dk_181 0 15 (dk_at dksX27_splice_3 3 rfl rfl)
theorem dX27_splice_74 : decode cX27_splice 74 = .ok (.aload_n 0, 1) := dk_42 (dk_at dksX27_splice_3 6 rfl rfl)
theorem dX27_splice_75 : decode cX27_splice 75 = .ok (.getfield 15, 3) := dk_180 0 15 (dk_at dksX27_splice_3 7 rfl rfl)
theorem dX27_splice_78 : decode cX27_splice 78 = .ok (.ireturn, 1) := dk_172 (dk_at dksX27_splice_3 10 rfl rfl)
abbrev cX27_reverse : ByteArray := prog_32_method_11_code
def yX27_reverse : MethodName := ⟨RX27, "reverse", "()I"⟩
def dkwX27_reverse_2 : List UInt8 := [27, 100, 28, 84, 132, 1, 1, 167, 255, 203, 42, 180, 0, 15, 172]
abbrev dktX27_reverse_2 : List UInt8 := dkwX27_reverse_2 ++ []
def dkwX27_reverse_1 : List UInt8 := [42, 180, 0, 9, 42, 180, 0, 15, 4, 100, 27, 100, 51, 84, 42, 180, 0, 9, 42, 180, 0, 15, 4, 100]
abbrev dktX27_reverse_1 : List UInt8 := dkwX27_reverse_1 ++ dktX27_reverse_2
def dkwX27_reverse_0 : List UInt8 := [3, 60, 27, 42, 180, 0, 15, 5, 108, 162, 0, 49, 42, 180, 0, 9, 27, 51, 61, 42, 180, 0, 9, 27]
abbrev dktX27_reverse_0 : List UInt8 := dkwX27_reverse_0 ++ dktX27_reverse_1
theorem dksX27_reverse_0 : cX27_reverse.data.toList.drop 0 = dktX27_reverse_0 := by decide +kernel
theorem dksX27_reverse_1 : cX27_reverse.data.toList.drop 24 = dktX27_reverse_1 := dk_seg dksX27_reverse_0 24 rfl rfl
theorem dksX27_reverse_2 : cX27_reverse.data.toList.drop 48 = dktX27_reverse_2 := dk_seg dksX27_reverse_1 24 rfl rfl
theorem dX27_reverse_0 : decode cX27_reverse 0 = .ok (.iconst 0, 1) := dk_3 (dk_at dksX27_reverse_0 0 rfl rfl)
theorem dX27_reverse_1 : decode cX27_reverse 1 = .ok (.istore_n 1, 1) := dk_60 (dk_at dksX27_reverse_0 1 rfl rfl)
theorem dX27_reverse_2 : decode cX27_reverse 2 = .ok (.iload_n 1, 1) := dk_27 (dk_at dksX27_reverse_0 2 rfl rfl)
theorem dX27_reverse_3 : decode cX27_reverse 3 = .ok (.aload_n 0, 1) := dk_42 (dk_at dksX27_reverse_0 3 rfl rfl)
theorem dX27_reverse_4 : decode cX27_reverse 4 = .ok (.getfield 15, 3) := dk_180 0 15 (dk_at dksX27_reverse_0 4 rfl rfl)
theorem dX27_reverse_7 : decode cX27_reverse 7 = .ok (.iconst 2, 1) := dk_5 (dk_at dksX27_reverse_0 7 rfl rfl)
theorem dX27_reverse_8 : decode cX27_reverse 8 = .ok (.idiv, 1) := dk_108 (dk_at dksX27_reverse_0 8 rfl rfl)
theorem dX27_reverse_9 : decode cX27_reverse 9 = .ok (.if_icmp .ge 49, 3) := dk_162 0 49 (dk_at dksX27_reverse_0 9 rfl rfl)
theorem dX27_reverse_12 : decode cX27_reverse 12 = .ok (.aload_n 0, 1) := dk_42 (dk_at dksX27_reverse_0 12 rfl rfl)
theorem dX27_reverse_13 : decode cX27_reverse 13 = .ok (.getfield 9, 3) := dk_180 0 9 (dk_at dksX27_reverse_0 13 rfl rfl)
theorem dX27_reverse_16 : decode cX27_reverse 16 = .ok (.iload_n 1, 1) := dk_27 (dk_at dksX27_reverse_0 16 rfl rfl)
theorem dX27_reverse_17 : decode cX27_reverse 17 = .ok (.baload, 1) := dk_51 (dk_at dksX27_reverse_0 17 rfl rfl)
theorem dX27_reverse_18 : decode cX27_reverse 18 = .ok (.istore_n 2, 1) := dk_61 (dk_at dksX27_reverse_0 18 rfl rfl)
theorem dX27_reverse_19 : decode cX27_reverse 19 = .ok (.aload_n 0, 1) := dk_42 (dk_at dksX27_reverse_0 19 rfl rfl)
theorem dX27_reverse_20 : decode cX27_reverse 20 = .ok (.getfield 9, 3) := dk_180 0 9 (dk_at dksX27_reverse_0 20 rfl rfl)
theorem dX27_reverse_23 : decode cX27_reverse 23 = .ok (.iload_n 1, 1) := dk_27 (dk_at dksX27_reverse_0 23 rfl rfl)
theorem dX27_reverse_24 : decode cX27_reverse 24 = .ok (.aload_n 0, 1) := dk_42 (dk_at dksX27_reverse_1 0 rfl rfl)
theorem dX27_reverse_25 : decode cX27_reverse 25 = .ok (.getfield 9, 3) := dk_180 0 9 (dk_at dksX27_reverse_1 1 rfl rfl)
theorem dX27_reverse_28 : decode cX27_reverse 28 = .ok (.aload_n 0, 1) := dk_42 (dk_at dksX27_reverse_1 4 rfl rfl)
theorem dX27_reverse_29 : decode cX27_reverse 29 = .ok (.getfield 15, 3) := dk_180 0 15 (dk_at dksX27_reverse_1 5 rfl rfl)
theorem dX27_reverse_32 : decode cX27_reverse 32 = .ok (.iconst 1, 1) := dk_4 (dk_at dksX27_reverse_1 8 rfl rfl)
theorem dX27_reverse_33 : decode cX27_reverse 33 = .ok (.isub, 1) := dk_100 (dk_at dksX27_reverse_1 9 rfl rfl)
theorem dX27_reverse_34 : decode cX27_reverse 34 = .ok (.iload_n 1, 1) := dk_27 (dk_at dksX27_reverse_1 10 rfl rfl)
theorem dX27_reverse_35 : decode cX27_reverse 35 = .ok (.isub, 1) := dk_100 (dk_at dksX27_reverse_1 11 rfl rfl)
theorem dX27_reverse_36 : decode cX27_reverse 36 = .ok (.baload, 1) := dk_51 (dk_at dksX27_reverse_1 12 rfl rfl)
theorem dX27_reverse_37 : decode cX27_reverse 37 = .ok (.bastore, 1) := dk_84 (dk_at dksX27_reverse_1 13 rfl rfl)
theorem dX27_reverse_38 : decode cX27_reverse 38 = .ok (.aload_n 0, 1) := dk_42 (dk_at dksX27_reverse_1 14 rfl rfl)
theorem dX27_reverse_39 : decode cX27_reverse 39 = .ok (.getfield 9, 3) := dk_180 0 9 (dk_at dksX27_reverse_1 15 rfl rfl)
theorem dX27_reverse_42 : decode cX27_reverse 42 = .ok (.aload_n 0, 1) := dk_42 (dk_at dksX27_reverse_1 18 rfl rfl)
theorem dX27_reverse_43 : decode cX27_reverse 43 = .ok (.getfield 15, 3) := dk_180 0 15 (dk_at dksX27_reverse_1 19 rfl rfl)
theorem dX27_reverse_46 : decode cX27_reverse 46 = .ok (.iconst 1, 1) := dk_4 (dk_at dksX27_reverse_1 22 rfl rfl)
theorem dX27_reverse_47 : decode cX27_reverse 47 = .ok (.isub, 1) := dk_100 (dk_at dksX27_reverse_1 23 rfl rfl)
theorem dX27_reverse_48 : decode cX27_reverse 48 = .ok (.iload_n 1, 1) := dk_27 (dk_at dksX27_reverse_2 0 rfl rfl)
theorem dX27_reverse_49 : decode cX27_reverse 49 = .ok (.isub, 1) := dk_100 (dk_at dksX27_reverse_2 1 rfl rfl)
theorem dX27_reverse_50 : decode cX27_reverse 50 = .ok (.iload_n 2, 1) := dk_28 (dk_at dksX27_reverse_2 2 rfl rfl)
theorem dX27_reverse_51 : decode cX27_reverse 51 = .ok (.bastore, 1) := dk_84 (dk_at dksX27_reverse_2 3 rfl rfl)
theorem dX27_reverse_52 : decode cX27_reverse 52 = .ok (.iinc 1 1, 3) := dk_132 1 1 (dk_at dksX27_reverse_2 4 rfl rfl)
theorem dX27_reverse_55 : decode cX27_reverse 55 = .ok (.goto (-53), 3) := dk_167 255 203 (dk_at dksX27_reverse_2 7 rfl rfl)
theorem dX27_reverse_58 : decode cX27_reverse 58 = .ok (.aload_n 0, 1) := dk_42 (dk_at dksX27_reverse_2 10 rfl rfl)
theorem dX27_reverse_59 : decode cX27_reverse 59 = .ok (.getfield 15, 3) := dk_180 0 15 (dk_at dksX27_reverse_2 11 rfl rfl)
theorem dX27_reverse_62 : decode cX27_reverse 62 = .ok (.ireturn, 1) := dk_172 (dk_at dksX27_reverse_2 14 rfl rfl)
abbrev cX27_find : ByteArray := prog_32_method_6_code
def yX27_find : MethodName := ⟨RX27, "find", "(I[BI)I"⟩
def dkwX27_find_2 : List UInt8 := [172]
abbrev dktX27_find_2 : List UInt8 := dkwX27_find_2 ++ []
def dkwX27_find_1 : List UInt8 := [157, 0, 23, 42, 21, 4, 44, 29, 182, 0, 29, 153, 0, 6, 21, 4, 172, 132, 4, 1, 167, 255, 224, 2]
abbrev dktX27_find_1 : List UInt8 := dkwX27_find_1 ++ dktX27_find_2
def dkwX27_find_0 : List UInt8 := [27, 156, 0, 7, 3, 167, 0, 4, 27, 54, 4, 21, 4, 133, 29, 133, 97, 42, 180, 0, 15, 133, 148]
abbrev dktX27_find_0 : List UInt8 := dkwX27_find_0 ++ dktX27_find_1
theorem dksX27_find_0 : cX27_find.data.toList.drop 0 = dktX27_find_0 := by decide +kernel
theorem dksX27_find_1 : cX27_find.data.toList.drop 23 = dktX27_find_1 := dk_seg dksX27_find_0 23 rfl rfl
theorem dksX27_find_2 : cX27_find.data.toList.drop 47 = dktX27_find_2 := dk_seg dksX27_find_1 24 rfl rfl
theorem dX27_find_0 : decode cX27_find 0 = .ok (.iload_n 1, 1) := dk_27 (dk_at dksX27_find_0 0 rfl rfl)
theorem dX27_find_1 : decode cX27_find 1 = .ok (.ifCond .ge 7, 3) := dk_156 0 7 (dk_at dksX27_find_0 1 rfl rfl)
theorem dX27_find_4 : decode cX27_find 4 = .ok (.iconst 0, 1) := dk_3 (dk_at dksX27_find_0 4 rfl rfl)
theorem dX27_find_5 : decode cX27_find 5 = .ok (.goto 4, 3) := dk_167 0 4 (dk_at dksX27_find_0 5 rfl rfl)
theorem dX27_find_8 : decode cX27_find 8 = .ok (.iload_n 1, 1) := dk_27 (dk_at dksX27_find_0 8 rfl rfl)
theorem dX27_find_9 : decode cX27_find 9 = .ok (.istore 4, 2) := dk_54 4 (dk_at dksX27_find_0 9 rfl rfl)
theorem dX27_find_11 : decode cX27_find 11 = .ok (.iload 4, 2) := dk_21 4 (dk_at dksX27_find_0 11 rfl rfl)
theorem dX27_find_13 : decode cX27_find 13 = .ok (.i2l, 1) := dk_133 (dk_at dksX27_find_0 13 rfl rfl)
theorem dX27_find_14 : decode cX27_find 14 = .ok (.iload_n 3, 1) := dk_29 (dk_at dksX27_find_0 14 rfl rfl)
theorem dX27_find_15 : decode cX27_find 15 = .ok (.i2l, 1) := dk_133 (dk_at dksX27_find_0 15 rfl rfl)
theorem dX27_find_16 : decode cX27_find 16 = .ok (.ladd, 1) := dk_97 (dk_at dksX27_find_0 16 rfl rfl)
theorem dX27_find_17 : decode cX27_find 17 = .ok (.aload_n 0, 1) := dk_42 (dk_at dksX27_find_0 17 rfl rfl)
theorem dX27_find_18 : decode cX27_find 18 = .ok (.getfield 15, 3) := dk_180 0 15 (dk_at dksX27_find_0 18 rfl rfl)
theorem dX27_find_21 : decode cX27_find 21 = .ok (.i2l, 1) := dk_133 (dk_at dksX27_find_0 21 rfl rfl)
theorem dX27_find_22 : decode cX27_find 22 = .ok (.lcmp, 1) := dk_148 (dk_at dksX27_find_0 22 rfl rfl)
theorem dX27_find_23 : decode cX27_find 23 = .ok (.ifCond .gt 23, 3) := dk_157 0 23 (dk_at dksX27_find_1 0 rfl rfl)
theorem dX27_find_26 : decode cX27_find 26 = .ok (.aload_n 0, 1) := dk_42 (dk_at dksX27_find_1 3 rfl rfl)
theorem dX27_find_27 : decode cX27_find 27 = .ok (.iload 4, 2) := dk_21 4 (dk_at dksX27_find_1 4 rfl rfl)
theorem dX27_find_29 : decode cX27_find 29 = .ok (.aload_n 2, 1) := dk_44 (dk_at dksX27_find_1 6 rfl rfl)
theorem dX27_find_30 : decode cX27_find 30 = .ok (.iload_n 3, 1) := dk_29 (dk_at dksX27_find_1 7 rfl rfl)
theorem dX27_find_31 : decode cX27_find 31 = .ok (.invokevirtual 29, 3) := dk_182 0 29 (dk_at dksX27_find_1 8 rfl rfl)
theorem dX27_find_34 : decode cX27_find 34 = .ok (.ifCond .eq 6, 3) := dk_153 0 6 (dk_at dksX27_find_1 11 rfl rfl)
theorem dX27_find_37 : decode cX27_find 37 = .ok (.iload 4, 2) := dk_21 4 (dk_at dksX27_find_1 14 rfl rfl)
theorem dX27_find_39 : decode cX27_find 39 = .ok (.ireturn, 1) := dk_172 (dk_at dksX27_find_1 16 rfl rfl)
theorem dX27_find_40 : decode cX27_find 40 = .ok (.iinc 4 1, 3) := dk_132 4 1 (dk_at dksX27_find_1 17 rfl rfl)
theorem dX27_find_43 : decode cX27_find 43 = .ok (.goto (-32), 3) := dk_167 255 224 (dk_at dksX27_find_1 20 rfl rfl)
theorem dX27_find_46 : decode cX27_find 46 = .ok (.iconst (-1), 1) := dk_2 (dk_at dksX27_find_1 23 rfl rfl)
theorem dX27_find_47 : decode cX27_find 47 = .ok (.ireturn, 1) := dk_172 (dk_at dksX27_find_2 0 rfl rfl)
abbrev cX27_stands : ByteArray := prog_32_method_5_code
def yX27_stands : MethodName := ⟨RX27, "stands", "(I[BI)Z"⟩
def dkwX27_stands_1 : List UInt8 := [159, 0, 5, 3, 172, 132, 4, 1, 167, 255, 229, 4, 172]
abbrev dktX27_stands_1 : List UInt8 := dkwX27_stands_1 ++ []
def dkwX27_stands_0 : List UInt8 := [3, 54, 4, 21, 4, 29, 162, 0, 27, 42, 180, 0, 9, 27, 21, 4, 96, 51, 44, 21, 4, 51]
abbrev dktX27_stands_0 : List UInt8 := dkwX27_stands_0 ++ dktX27_stands_1
theorem dksX27_stands_0 : cX27_stands.data.toList.drop 0 = dktX27_stands_0 := by decide +kernel
theorem dksX27_stands_1 : cX27_stands.data.toList.drop 22 = dktX27_stands_1 := dk_seg dksX27_stands_0 22 rfl rfl
theorem dX27_stands_0 : decode cX27_stands 0 = .ok (.iconst 0, 1) := dk_3 (dk_at dksX27_stands_0 0 rfl rfl)
theorem dX27_stands_1 : decode cX27_stands 1 = .ok (.istore 4, 2) := dk_54 4 (dk_at dksX27_stands_0 1 rfl rfl)
theorem dX27_stands_3 : decode cX27_stands 3 = .ok (.iload 4, 2) := dk_21 4 (dk_at dksX27_stands_0 3 rfl rfl)
theorem dX27_stands_5 : decode cX27_stands 5 = .ok (.iload_n 3, 1) := dk_29 (dk_at dksX27_stands_0 5 rfl rfl)
theorem dX27_stands_6 : decode cX27_stands 6 = .ok (.if_icmp .ge 27, 3) := dk_162 0 27 (dk_at dksX27_stands_0 6 rfl rfl)
theorem dX27_stands_9 : decode cX27_stands 9 = .ok (.aload_n 0, 1) := dk_42 (dk_at dksX27_stands_0 9 rfl rfl)
theorem dX27_stands_10 : decode cX27_stands 10 = .ok (.getfield 9, 3) := dk_180 0 9 (dk_at dksX27_stands_0 10 rfl rfl)
theorem dX27_stands_13 : decode cX27_stands 13 = .ok (.iload_n 1, 1) := dk_27 (dk_at dksX27_stands_0 13 rfl rfl)
theorem dX27_stands_14 : decode cX27_stands 14 = .ok (.iload 4, 2) := dk_21 4 (dk_at dksX27_stands_0 14 rfl rfl)
theorem dX27_stands_16 : decode cX27_stands 16 = .ok (.iadd, 1) := dk_96 (dk_at dksX27_stands_0 16 rfl rfl)
theorem dX27_stands_17 : decode cX27_stands 17 = .ok (.baload, 1) := dk_51 (dk_at dksX27_stands_0 17 rfl rfl)
theorem dX27_stands_18 : decode cX27_stands 18 = .ok (.aload_n 2, 1) := dk_44 (dk_at dksX27_stands_0 18 rfl rfl)
theorem dX27_stands_19 : decode cX27_stands 19 = .ok (.iload 4, 2) := dk_21 4 (dk_at dksX27_stands_0 19 rfl rfl)
theorem dX27_stands_21 : decode cX27_stands 21 = .ok (.baload, 1) := dk_51 (dk_at dksX27_stands_0 21 rfl rfl)
theorem dX27_stands_22 : decode cX27_stands 22 = .ok (.if_icmp .eq 5, 3) := dk_159 0 5 (dk_at dksX27_stands_1 0 rfl rfl)
theorem dX27_stands_25 : decode cX27_stands 25 = .ok (.iconst 0, 1) := dk_3 (dk_at dksX27_stands_1 3 rfl rfl)
theorem dX27_stands_26 : decode cX27_stands 26 = .ok (.ireturn, 1) := dk_172 (dk_at dksX27_stands_1 4 rfl rfl)
theorem dX27_stands_27 : decode cX27_stands 27 = .ok (.iinc 4 1, 3) := dk_132 4 1 (dk_at dksX27_stands_1 5 rfl rfl)
theorem dX27_stands_30 : decode cX27_stands 30 = .ok (.goto (-27), 3) := dk_167 255 229 (dk_at dksX27_stands_1 8 rfl rfl)
theorem dX27_stands_33 : decode cX27_stands 33 = .ok (.iconst 1, 1) := dk_4 (dk_at dksX27_stands_1 11 rfl rfl)
theorem dX27_stands_34 : decode cX27_stands 34 = .ok (.ireturn, 1) := dk_172 (dk_at dksX27_stands_1 12 rfl rfl)
abbrev cX27_findLast : ByteArray := prog_32_method_7_code
def yX27_findLast : MethodName := ⟨RX27, "findLast", "(I[BI)I"⟩
def dkwX27_findLast_2 : List UInt8 := [156, 0, 7, 2, 167, 0, 5, 21, 4, 172]
abbrev dktX27_findLast_2 : List UInt8 := dkwX27_findLast_2 ++ []
def dkwX27_findLast_1 : List UInt8 := [155, 0, 20, 42, 21, 4, 44, 29, 182, 0, 29, 154, 0, 9, 132, 4, 255, 167, 255, 237, 21, 4]
abbrev dktX27_findLast_1 : List UInt8 := dkwX27_findLast_1 ++ dktX27_findLast_2
def dkwX27_findLast_0 : List UInt8 := [27, 42, 180, 0, 15, 29, 100, 162, 0, 7, 27, 167, 0, 9, 42, 180, 0, 15, 29, 100, 54, 4, 21, 4]
abbrev dktX27_findLast_0 : List UInt8 := dkwX27_findLast_0 ++ dktX27_findLast_1
theorem dksX27_findLast_0 : cX27_findLast.data.toList.drop 0 = dktX27_findLast_0 := by decide +kernel
theorem dksX27_findLast_1 : cX27_findLast.data.toList.drop 24 = dktX27_findLast_1 := dk_seg dksX27_findLast_0 24 rfl rfl
theorem dksX27_findLast_2 : cX27_findLast.data.toList.drop 46 = dktX27_findLast_2 := dk_seg dksX27_findLast_1 22 rfl rfl
theorem dX27_findLast_0 : decode cX27_findLast 0 = .ok (.iload_n 1, 1) := dk_27 (dk_at dksX27_findLast_0 0 rfl rfl)
theorem dX27_findLast_1 : decode cX27_findLast 1 = .ok (.aload_n 0, 1) := dk_42 (dk_at dksX27_findLast_0 1 rfl rfl)
theorem dX27_findLast_2 : decode cX27_findLast 2 = .ok (.getfield 15, 3) := dk_180 0 15 (dk_at dksX27_findLast_0 2 rfl rfl)
theorem dX27_findLast_5 : decode cX27_findLast 5 = .ok (.iload_n 3, 1) := dk_29 (dk_at dksX27_findLast_0 5 rfl rfl)
theorem dX27_findLast_6 : decode cX27_findLast 6 = .ok (.isub, 1) := dk_100 (dk_at dksX27_findLast_0 6 rfl rfl)
theorem dX27_findLast_7 : decode cX27_findLast 7 = .ok (.if_icmp .ge 7, 3) := dk_162 0 7 (dk_at dksX27_findLast_0 7 rfl rfl)
theorem dX27_findLast_10 : decode cX27_findLast 10 = .ok (.iload_n 1, 1) := dk_27 (dk_at dksX27_findLast_0 10 rfl rfl)
theorem dX27_findLast_11 : decode cX27_findLast 11 = .ok (.goto 9, 3) := dk_167 0 9 (dk_at dksX27_findLast_0 11 rfl rfl)
theorem dX27_findLast_14 : decode cX27_findLast 14 = .ok (.aload_n 0, 1) := dk_42 (dk_at dksX27_findLast_0 14 rfl rfl)
theorem dX27_findLast_15 : decode cX27_findLast 15 = .ok (.getfield 15, 3) := dk_180 0 15 (dk_at dksX27_findLast_0 15 rfl rfl)
theorem dX27_findLast_18 : decode cX27_findLast 18 = .ok (.iload_n 3, 1) := dk_29 (dk_at dksX27_findLast_0 18 rfl rfl)
theorem dX27_findLast_19 : decode cX27_findLast 19 = .ok (.isub, 1) := dk_100 (dk_at dksX27_findLast_0 19 rfl rfl)
theorem dX27_findLast_20 : decode cX27_findLast 20 = .ok (.istore 4, 2) := dk_54 4 (dk_at dksX27_findLast_0 20 rfl rfl)
theorem dX27_findLast_22 : decode cX27_findLast 22 = .ok (.iload 4, 2) := dk_21 4 (dk_at dksX27_findLast_0 22 rfl rfl)
theorem dX27_findLast_24 : decode cX27_findLast 24 = .ok (.ifCond .lt 20, 3) := dk_155 0 20 (dk_at dksX27_findLast_1 0 rfl rfl)
theorem dX27_findLast_27 : decode cX27_findLast 27 = .ok (.aload_n 0, 1) := dk_42 (dk_at dksX27_findLast_1 3 rfl rfl)
theorem dX27_findLast_28 : decode cX27_findLast 28 = .ok (.iload 4, 2) := dk_21 4 (dk_at dksX27_findLast_1 4 rfl rfl)
theorem dX27_findLast_30 : decode cX27_findLast 30 = .ok (.aload_n 2, 1) := dk_44 (dk_at dksX27_findLast_1 6 rfl rfl)
theorem dX27_findLast_31 : decode cX27_findLast 31 = .ok (.iload_n 3, 1) := dk_29 (dk_at dksX27_findLast_1 7 rfl rfl)
theorem dX27_findLast_32 : decode cX27_findLast 32 = .ok (.invokevirtual 29, 3) := dk_182 0 29 (dk_at dksX27_findLast_1 8 rfl rfl)
theorem dX27_findLast_35 : decode cX27_findLast 35 = .ok (.ifCond .ne 9, 3) := dk_154 0 9 (dk_at dksX27_findLast_1 11 rfl rfl)
theorem dX27_findLast_38 : decode cX27_findLast 38 = .ok (.iinc 4 (-1), 3) := dk_132 4 255 (dk_at dksX27_findLast_1 14 rfl rfl)
theorem dX27_findLast_41 : decode cX27_findLast 41 = .ok (.goto (-19), 3) := dk_167 255 237 (dk_at dksX27_findLast_1 17 rfl rfl)
theorem dX27_findLast_44 : decode cX27_findLast 44 = .ok (.iload 4, 2) := dk_21 4 (dk_at dksX27_findLast_1 20 rfl rfl)
theorem dX27_findLast_46 : decode cX27_findLast 46 = .ok (.ifCond .ge 7, 3) := dk_156 0 7 (dk_at dksX27_findLast_2 0 rfl rfl)
theorem dX27_findLast_49 : decode cX27_findLast 49 = .ok (.iconst (-1), 1) := dk_2 (dk_at dksX27_findLast_2 3 rfl rfl)
theorem dX27_findLast_50 : decode cX27_findLast 50 = .ok (.goto 5, 3) := dk_167 0 5 (dk_at dksX27_findLast_2 4 rfl rfl)
theorem dX27_findLast_53 : decode cX27_findLast 53 = .ok (.iload 4, 2) := dk_21 4 (dk_at dksX27_findLast_2 7 rfl rfl)
theorem dX27_findLast_55 : decode cX27_findLast 55 = .ok (.ireturn, 1) := dk_172 (dk_at dksX27_findLast_2 9 rfl rfl)
abbrev cX27_hash : ByteArray := prog_32_method_9_code
def yX27_hash : MethodName := ⟨RX27, "hash", "()I"⟩
def dkwX27_hash_1 : List UInt8 := [132, 2, 1, 167, 255, 234, 27, 172]
abbrev dktX27_hash_1 : List UInt8 := dkwX27_hash_1 ++ []
def dkwX27_hash_0 : List UInt8 := [4, 60, 3, 61, 28, 42, 180, 0, 15, 162, 0, 20, 16, 31, 27, 104, 42, 28, 182, 0, 33, 96, 60]
abbrev dktX27_hash_0 : List UInt8 := dkwX27_hash_0 ++ dktX27_hash_1
theorem dksX27_hash_0 : cX27_hash.data.toList.drop 0 = dktX27_hash_0 := by decide +kernel
theorem dksX27_hash_1 : cX27_hash.data.toList.drop 23 = dktX27_hash_1 := dk_seg dksX27_hash_0 23 rfl rfl
theorem dX27_hash_0 : decode cX27_hash 0 = .ok (.iconst 1, 1) := dk_4 (dk_at dksX27_hash_0 0 rfl rfl)
theorem dX27_hash_1 : decode cX27_hash 1 = .ok (.istore_n 1, 1) := dk_60 (dk_at dksX27_hash_0 1 rfl rfl)
theorem dX27_hash_2 : decode cX27_hash 2 = .ok (.iconst 0, 1) := dk_3 (dk_at dksX27_hash_0 2 rfl rfl)
theorem dX27_hash_3 : decode cX27_hash 3 = .ok (.istore_n 2, 1) := dk_61 (dk_at dksX27_hash_0 3 rfl rfl)
theorem dX27_hash_4 : decode cX27_hash 4 = .ok (.iload_n 2, 1) := dk_28 (dk_at dksX27_hash_0 4 rfl rfl)
theorem dX27_hash_5 : decode cX27_hash 5 = .ok (.aload_n 0, 1) := dk_42 (dk_at dksX27_hash_0 5 rfl rfl)
theorem dX27_hash_6 : decode cX27_hash 6 = .ok (.getfield 15, 3) := dk_180 0 15 (dk_at dksX27_hash_0 6 rfl rfl)
theorem dX27_hash_9 : decode cX27_hash 9 = .ok (.if_icmp .ge 20, 3) := dk_162 0 20 (dk_at dksX27_hash_0 9 rfl rfl)
theorem dX27_hash_12 : decode cX27_hash 12 = .ok (.bipush 31, 2) := dk_16 31 (dk_at dksX27_hash_0 12 rfl rfl)
theorem dX27_hash_14 : decode cX27_hash 14 = .ok (.iload_n 1, 1) := dk_27 (dk_at dksX27_hash_0 14 rfl rfl)
theorem dX27_hash_15 : decode cX27_hash 15 = .ok (.imul, 1) := dk_104 (dk_at dksX27_hash_0 15 rfl rfl)
theorem dX27_hash_16 : decode cX27_hash 16 = .ok (.aload_n 0, 1) := dk_42 (dk_at dksX27_hash_0 16 rfl rfl)
theorem dX27_hash_17 : decode cX27_hash 17 = .ok (.iload_n 2, 1) := dk_28 (dk_at dksX27_hash_0 17 rfl rfl)
theorem dX27_hash_18 : decode cX27_hash 18 = .ok (.invokevirtual 33, 3) := dk_182 0 33 (dk_at dksX27_hash_0 18 rfl rfl)
theorem dX27_hash_21 : decode cX27_hash 21 = .ok (.iadd, 1) := dk_96 (dk_at dksX27_hash_0 21 rfl rfl)
theorem dX27_hash_22 : decode cX27_hash 22 = .ok (.istore_n 1, 1) := dk_60 (dk_at dksX27_hash_0 22 rfl rfl)
theorem dX27_hash_23 : decode cX27_hash 23 = .ok (.iinc 2 1, 3) := dk_132 2 1 (dk_at dksX27_hash_1 0 rfl rfl)
theorem dX27_hash_26 : decode cX27_hash 26 = .ok (.goto (-22), 3) := dk_167 255 234 (dk_at dksX27_hash_1 3 rfl rfl)
theorem dX27_hash_29 : decode cX27_hash 29 = .ok (.iload_n 1, 1) := dk_27 (dk_at dksX27_hash_1 6 rfl rfl)
theorem dX27_hash_30 : decode cX27_hash 30 = .ok (.ireturn, 1) := dk_172 (dk_at dksX27_hash_1 7 rfl rfl)
abbrev cX27_cut : ByteArray := prog_32_method_10_code
def yX27_cut : MethodName := ⟨RX27, "cut", "(I)I"⟩
def dkwX27_cut_1 : List UInt8 := [27, 181, 0, 15, 27, 172]
abbrev dktX27_cut_1 : List UInt8 := dkwX27_cut_1 ++ []
def dkwX27_cut_0 : List UInt8 := [42, 180, 0, 15, 61, 28, 27, 162, 0, 16, 42, 180, 0, 9, 28, 3, 84, 132, 2, 1, 167, 255, 241, 42]
abbrev dktX27_cut_0 : List UInt8 := dkwX27_cut_0 ++ dktX27_cut_1
theorem dksX27_cut_0 : cX27_cut.data.toList.drop 0 = dktX27_cut_0 := by decide +kernel
theorem dksX27_cut_1 : cX27_cut.data.toList.drop 24 = dktX27_cut_1 := dk_seg dksX27_cut_0 24 rfl rfl
theorem dX27_cut_0 : decode cX27_cut 0 = .ok (.aload_n 0, 1) := dk_42 (dk_at dksX27_cut_0 0 rfl rfl)
theorem dX27_cut_1 : decode cX27_cut 1 = .ok (.getfield 15, 3) := dk_180 0 15 (dk_at dksX27_cut_0 1 rfl rfl)
theorem dX27_cut_4 : decode cX27_cut 4 = .ok (.istore_n 2, 1) := dk_61 (dk_at dksX27_cut_0 4 rfl rfl)
theorem dX27_cut_5 : decode cX27_cut 5 = .ok (.iload_n 2, 1) := dk_28 (dk_at dksX27_cut_0 5 rfl rfl)
theorem dX27_cut_6 : decode cX27_cut 6 = .ok (.iload_n 1, 1) := dk_27 (dk_at dksX27_cut_0 6 rfl rfl)
theorem dX27_cut_7 : decode cX27_cut 7 = .ok (.if_icmp .ge 16, 3) := dk_162 0 16 (dk_at dksX27_cut_0 7 rfl rfl)
theorem dX27_cut_10 : decode cX27_cut 10 = .ok (.aload_n 0, 1) := dk_42 (dk_at dksX27_cut_0 10 rfl rfl)
theorem dX27_cut_11 : decode cX27_cut 11 = .ok (.getfield 9, 3) := dk_180 0 9 (dk_at dksX27_cut_0 11 rfl rfl)
theorem dX27_cut_14 : decode cX27_cut 14 = .ok (.iload_n 2, 1) := dk_28 (dk_at dksX27_cut_0 14 rfl rfl)
theorem dX27_cut_15 : decode cX27_cut 15 = .ok (.iconst 0, 1) := dk_3 (dk_at dksX27_cut_0 15 rfl rfl)
theorem dX27_cut_16 : decode cX27_cut 16 = .ok (.bastore, 1) := dk_84 (dk_at dksX27_cut_0 16 rfl rfl)
theorem dX27_cut_17 : decode cX27_cut 17 = .ok (.iinc 2 1, 3) := dk_132 2 1 (dk_at dksX27_cut_0 17 rfl rfl)
theorem dX27_cut_20 : decode cX27_cut 20 = .ok (.goto (-15), 3) := dk_167 255 241 (dk_at dksX27_cut_0 20 rfl rfl)
theorem dX27_cut_23 : decode cX27_cut 23 = .ok (.aload_n 0, 1) := dk_42 (dk_at dksX27_cut_0 23 rfl rfl)
theorem dX27_cut_24 : decode cX27_cut 24 = .ok (.iload_n 1, 1) := dk_27 (dk_at dksX27_cut_1 0 rfl rfl)
theorem dX27_cut_25 : decode cX27_cut 25 = .ok (.putfield 15, 3) := dk_181 0 15 (dk_at dksX27_cut_1 1 rfl rfl)
theorem dX27_cut_28 : decode cX27_cut 28 = .ok (.iload_n 1, 1) := dk_27 (dk_at dksX27_cut_1 4 rfl rfl)
theorem dX27_cut_29 : decode cX27_cut 29 = .ok (.ireturn, 1) := dk_172 (dk_at dksX27_cut_1 5 rfl rfl)
abbrev cX27_letters : ByteArray := prog_32_method_12_code
def yX27_letters : MethodName := ⟨RX27, "letters", "(Z)I"⟩
def dkwX27_letters_2 : List UInt8 := [42, 180, 0, 9, 28, 29, 16, 32, 130, 145, 84, 132, 2, 1, 167, 255, 197, 42, 180, 0, 15, 172]
abbrev dktX27_letters_2 : List UInt8 := dkwX27_letters_2 ++ []
def dkwX27_letters_1 : List UInt8 := [161, 0, 35, 29, 16, 122, 163, 0, 29, 167, 0, 15, 29, 16, 65, 161, 0, 20, 29, 16, 90, 163, 0, 14]
abbrev dktX27_letters_1 : List UInt8 := dkwX27_letters_1 ++ dktX27_letters_2
def dkwX27_letters_0 : List UInt8 := [3, 61, 28, 42, 180, 0, 15, 162, 0, 57, 42, 28, 182, 0, 33, 62, 27, 153, 0, 18, 29, 16, 97]
abbrev dktX27_letters_0 : List UInt8 := dkwX27_letters_0 ++ dktX27_letters_1
theorem dksX27_letters_0 : cX27_letters.data.toList.drop 0 = dktX27_letters_0 := by decide +kernel
theorem dksX27_letters_1 : cX27_letters.data.toList.drop 23 = dktX27_letters_1 := dk_seg dksX27_letters_0 23 rfl rfl
theorem dksX27_letters_2 : cX27_letters.data.toList.drop 47 = dktX27_letters_2 := dk_seg dksX27_letters_1 24 rfl rfl
theorem dX27_letters_0 : decode cX27_letters 0 = .ok (.iconst 0, 1) := dk_3 (dk_at dksX27_letters_0 0 rfl rfl)
theorem dX27_letters_1 : decode cX27_letters 1 = .ok (.istore_n 2, 1) := dk_61 (dk_at dksX27_letters_0 1 rfl rfl)
theorem dX27_letters_2 : decode cX27_letters 2 = .ok (.iload_n 2, 1) := dk_28 (dk_at dksX27_letters_0 2 rfl rfl)
theorem dX27_letters_3 : decode cX27_letters 3 = .ok (.aload_n 0, 1) := dk_42 (dk_at dksX27_letters_0 3 rfl rfl)
theorem dX27_letters_4 : decode cX27_letters 4 = .ok (.getfield 15, 3) := dk_180 0 15 (dk_at dksX27_letters_0 4 rfl rfl)
theorem dX27_letters_7 : decode cX27_letters 7 = .ok (.if_icmp .ge 57, 3) := dk_162 0 57 (dk_at dksX27_letters_0 7 rfl rfl)
theorem dX27_letters_10 : decode cX27_letters 10 = .ok (.aload_n 0, 1) := dk_42 (dk_at dksX27_letters_0 10 rfl rfl)
theorem dX27_letters_11 : decode cX27_letters 11 = .ok (.iload_n 2, 1) := dk_28 (dk_at dksX27_letters_0 11 rfl rfl)
theorem dX27_letters_12 : decode cX27_letters 12 = .ok (.invokevirtual 33, 3) := dk_182 0 33 (dk_at dksX27_letters_0 12 rfl rfl)
theorem dX27_letters_15 : decode cX27_letters 15 = .ok (.istore_n 3, 1) := dk_62 (dk_at dksX27_letters_0 15 rfl rfl)
theorem dX27_letters_16 : decode cX27_letters 16 = .ok (.iload_n 1, 1) := dk_27 (dk_at dksX27_letters_0 16 rfl rfl)
theorem dX27_letters_17 : decode cX27_letters 17 = .ok (.ifCond .eq 18, 3) := dk_153 0 18 (dk_at dksX27_letters_0 17 rfl rfl)
theorem dX27_letters_20 : decode cX27_letters 20 = .ok (.iload_n 3, 1) := dk_29 (dk_at dksX27_letters_0 20 rfl rfl)
theorem dX27_letters_21 : decode cX27_letters 21 = .ok (.bipush 97, 2) := dk_16 97 (dk_at dksX27_letters_0 21 rfl rfl)
theorem dX27_letters_23 : decode cX27_letters 23 = .ok (.if_icmp .lt 35, 3) := dk_161 0 35 (dk_at dksX27_letters_1 0 rfl rfl)
theorem dX27_letters_26 : decode cX27_letters 26 = .ok (.iload_n 3, 1) := dk_29 (dk_at dksX27_letters_1 3 rfl rfl)
theorem dX27_letters_27 : decode cX27_letters 27 = .ok (.bipush 122, 2) := dk_16 122 (dk_at dksX27_letters_1 4 rfl rfl)
theorem dX27_letters_29 : decode cX27_letters 29 = .ok (.if_icmp .gt 29, 3) := dk_163 0 29 (dk_at dksX27_letters_1 6 rfl rfl)
theorem dX27_letters_32 : decode cX27_letters 32 = .ok (.goto 15, 3) := dk_167 0 15 (dk_at dksX27_letters_1 9 rfl rfl)
theorem dX27_letters_35 : decode cX27_letters 35 = .ok (.iload_n 3, 1) := dk_29 (dk_at dksX27_letters_1 12 rfl rfl)
theorem dX27_letters_36 : decode cX27_letters 36 = .ok (.bipush 65, 2) := dk_16 65 (dk_at dksX27_letters_1 13 rfl rfl)
theorem dX27_letters_38 : decode cX27_letters 38 = .ok (.if_icmp .lt 20, 3) := dk_161 0 20 (dk_at dksX27_letters_1 15 rfl rfl)
theorem dX27_letters_41 : decode cX27_letters 41 = .ok (.iload_n 3, 1) := dk_29 (dk_at dksX27_letters_1 18 rfl rfl)
theorem dX27_letters_42 : decode cX27_letters 42 = .ok (.bipush 90, 2) := dk_16 90 (dk_at dksX27_letters_1 19 rfl rfl)
theorem dX27_letters_44 : decode cX27_letters 44 = .ok (.if_icmp .gt 14, 3) := dk_163 0 14 (dk_at dksX27_letters_1 21 rfl rfl)
theorem dX27_letters_47 : decode cX27_letters 47 = .ok (.aload_n 0, 1) := dk_42 (dk_at dksX27_letters_2 0 rfl rfl)
theorem dX27_letters_48 : decode cX27_letters 48 = .ok (.getfield 9, 3) := dk_180 0 9 (dk_at dksX27_letters_2 1 rfl rfl)
theorem dX27_letters_51 : decode cX27_letters 51 = .ok (.iload_n 2, 1) := dk_28 (dk_at dksX27_letters_2 4 rfl rfl)
theorem dX27_letters_52 : decode cX27_letters 52 = .ok (.iload_n 3, 1) := dk_29 (dk_at dksX27_letters_2 5 rfl rfl)
theorem dX27_letters_53 : decode cX27_letters 53 = .ok (.bipush 32, 2) := dk_16 32 (dk_at dksX27_letters_2 6 rfl rfl)
theorem dX27_letters_55 : decode cX27_letters 55 = .ok (.ixor, 1) := dk_130 (dk_at dksX27_letters_2 8 rfl rfl)
theorem dX27_letters_56 : decode cX27_letters 56 = .ok (.i2b, 1) := dk_145 (dk_at dksX27_letters_2 9 rfl rfl)
theorem dX27_letters_57 : decode cX27_letters 57 = .ok (.bastore, 1) := dk_84 (dk_at dksX27_letters_2 10 rfl rfl)
theorem dX27_letters_58 : decode cX27_letters 58 = .ok (.iinc 2 1, 3) := dk_132 2 1 (dk_at dksX27_letters_2 11 rfl rfl)
theorem dX27_letters_61 : decode cX27_letters 61 = .ok (.goto (-59), 3) := dk_167 255 197 (dk_at dksX27_letters_2 14 rfl rfl)
theorem dX27_letters_64 : decode cX27_letters 64 = .ok (.aload_n 0, 1) := dk_42 (dk_at dksX27_letters_2 17 rfl rfl)
theorem dX27_letters_65 : decode cX27_letters 65 = .ok (.getfield 15, 3) := dk_180 0 15 (dk_at dksX27_letters_2 18 rfl rfl)
theorem dX27_letters_68 : decode cX27_letters 68 = .ok (.ireturn, 1) := dk_172 (dk_at dksX27_letters_2 21 rfl rfl)
abbrev cX27_trim : ByteArray := prog_32_method_14_code
def yX27_trim : MethodName := ⟨RX27, "trim", "()I"⟩
def dkwX27_trim_3 : List UInt8 := [184, 0, 23, 42, 28, 27, 100, 181, 0, 15, 42, 180, 0, 15, 172]
abbrev dktX27_trim_3 : List UInt8 := dkwX27_trim_3 ++ []
def dkwX27_trim_2 : List UInt8 := [153, 0, 9, 132, 2, 255, 167, 255, 235, 42, 180, 0, 9, 27, 42, 180, 0, 9, 3, 28, 27, 100]
abbrev dktX27_trim_2 : List UInt8 := dkwX27_trim_2 ++ dktX27_trim_3
def dkwX27_trim_1 : List UInt8 := [167, 255, 234, 42, 180, 0, 15, 61, 28, 27, 164, 0, 22, 42, 28, 4, 100, 182, 0, 33, 184, 0, 37]
abbrev dktX27_trim_1 : List UInt8 := dkwX27_trim_1 ++ dktX27_trim_2
def dkwX27_trim_0 : List UInt8 := [3, 60, 27, 42, 180, 0, 15, 162, 0, 20, 42, 27, 182, 0, 33, 184, 0, 37, 153, 0, 9, 132, 1, 1]
abbrev dktX27_trim_0 : List UInt8 := dkwX27_trim_0 ++ dktX27_trim_1
theorem dksX27_trim_0 : cX27_trim.data.toList.drop 0 = dktX27_trim_0 := by decide +kernel
theorem dksX27_trim_1 : cX27_trim.data.toList.drop 24 = dktX27_trim_1 := dk_seg dksX27_trim_0 24 rfl rfl
theorem dksX27_trim_2 : cX27_trim.data.toList.drop 47 = dktX27_trim_2 := dk_seg dksX27_trim_1 23 rfl rfl
theorem dksX27_trim_3 : cX27_trim.data.toList.drop 69 = dktX27_trim_3 := dk_seg dksX27_trim_2 22 rfl rfl
theorem dX27_trim_0 : decode cX27_trim 0 = .ok (.iconst 0, 1) := dk_3 (dk_at dksX27_trim_0 0 rfl rfl)
theorem dX27_trim_1 : decode cX27_trim 1 = .ok (.istore_n 1, 1) := dk_60 (dk_at dksX27_trim_0 1 rfl rfl)
theorem dX27_trim_2 : decode cX27_trim 2 = .ok (.iload_n 1, 1) := dk_27 (dk_at dksX27_trim_0 2 rfl rfl)
theorem dX27_trim_3 : decode cX27_trim 3 = .ok (.aload_n 0, 1) := dk_42 (dk_at dksX27_trim_0 3 rfl rfl)
theorem dX27_trim_4 : decode cX27_trim 4 = .ok (.getfield 15, 3) := dk_180 0 15 (dk_at dksX27_trim_0 4 rfl rfl)
theorem dX27_trim_7 : decode cX27_trim 7 = .ok (.if_icmp .ge 20, 3) := dk_162 0 20 (dk_at dksX27_trim_0 7 rfl rfl)
theorem dX27_trim_10 : decode cX27_trim 10 = .ok (.aload_n 0, 1) := dk_42 (dk_at dksX27_trim_0 10 rfl rfl)
theorem dX27_trim_11 : decode cX27_trim 11 = .ok (.iload_n 1, 1) := dk_27 (dk_at dksX27_trim_0 11 rfl rfl)
theorem dX27_trim_12 : decode cX27_trim 12 = .ok (.invokevirtual 33, 3) := dk_182 0 33 (dk_at dksX27_trim_0 12 rfl rfl)
theorem dX27_trim_15 : decode cX27_trim 15 = .ok (.invokestatic 37, 3) := dk_184 0 37 (dk_at dksX27_trim_0 15 rfl rfl)
theorem dX27_trim_18 : decode cX27_trim 18 = .ok (.ifCond .eq 9, 3) := dk_153 0 9 (dk_at dksX27_trim_0 18 rfl rfl)
theorem dX27_trim_21 : decode cX27_trim 21 = .ok (.iinc 1 1, 3) := dk_132 1 1 (dk_at dksX27_trim_0 21 rfl rfl)
theorem dX27_trim_24 : decode cX27_trim 24 = .ok (.goto (-22), 3) := dk_167 255 234 (dk_at dksX27_trim_1 0 rfl rfl)
theorem dX27_trim_27 : decode cX27_trim 27 = .ok (.aload_n 0, 1) := dk_42 (dk_at dksX27_trim_1 3 rfl rfl)
theorem dX27_trim_28 : decode cX27_trim 28 = .ok (.getfield 15, 3) := dk_180 0 15 (dk_at dksX27_trim_1 4 rfl rfl)
theorem dX27_trim_31 : decode cX27_trim 31 = .ok (.istore_n 2, 1) := dk_61 (dk_at dksX27_trim_1 7 rfl rfl)
theorem dX27_trim_32 : decode cX27_trim 32 = .ok (.iload_n 2, 1) := dk_28 (dk_at dksX27_trim_1 8 rfl rfl)
theorem dX27_trim_33 : decode cX27_trim 33 = .ok (.iload_n 1, 1) := dk_27 (dk_at dksX27_trim_1 9 rfl rfl)
theorem dX27_trim_34 : decode cX27_trim 34 = .ok (.if_icmp .le 22, 3) := dk_164 0 22 (dk_at dksX27_trim_1 10 rfl rfl)
theorem dX27_trim_37 : decode cX27_trim 37 = .ok (.aload_n 0, 1) := dk_42 (dk_at dksX27_trim_1 13 rfl rfl)
theorem dX27_trim_38 : decode cX27_trim 38 = .ok (.iload_n 2, 1) := dk_28 (dk_at dksX27_trim_1 14 rfl rfl)
theorem dX27_trim_39 : decode cX27_trim 39 = .ok (.iconst 1, 1) := dk_4 (dk_at dksX27_trim_1 15 rfl rfl)
theorem dX27_trim_40 : decode cX27_trim 40 = .ok (.isub, 1) := dk_100 (dk_at dksX27_trim_1 16 rfl rfl)
theorem dX27_trim_41 : decode cX27_trim 41 = .ok (.invokevirtual 33, 3) := dk_182 0 33 (dk_at dksX27_trim_1 17 rfl rfl)
theorem dX27_trim_44 : decode cX27_trim 44 = .ok (.invokestatic 37, 3) := dk_184 0 37 (dk_at dksX27_trim_1 20 rfl rfl)
theorem dX27_trim_47 : decode cX27_trim 47 = .ok (.ifCond .eq 9, 3) := dk_153 0 9 (dk_at dksX27_trim_2 0 rfl rfl)
theorem dX27_trim_50 : decode cX27_trim 50 = .ok (.iinc 2 (-1), 3) := dk_132 2 255 (dk_at dksX27_trim_2 3 rfl rfl)
theorem dX27_trim_53 : decode cX27_trim 53 = .ok (.goto (-21), 3) := dk_167 255 235 (dk_at dksX27_trim_2 6 rfl rfl)
theorem dX27_trim_56 : decode cX27_trim 56 = .ok (.aload_n 0, 1) := dk_42 (dk_at dksX27_trim_2 9 rfl rfl)
theorem dX27_trim_57 : decode cX27_trim 57 = .ok (.getfield 9, 3) := dk_180 0 9 (dk_at dksX27_trim_2 10 rfl rfl)
theorem dX27_trim_60 : decode cX27_trim 60 = .ok (.iload_n 1, 1) := dk_27 (dk_at dksX27_trim_2 13 rfl rfl)
theorem dX27_trim_61 : decode cX27_trim 61 = .ok (.aload_n 0, 1) := dk_42 (dk_at dksX27_trim_2 14 rfl rfl)
theorem dX27_trim_62 : decode cX27_trim 62 = .ok (.getfield 9, 3) := dk_180 0 9 (dk_at dksX27_trim_2 15 rfl rfl)
theorem dX27_trim_65 : decode cX27_trim 65 = .ok (.iconst 0, 1) := dk_3 (dk_at dksX27_trim_2 18 rfl rfl)
theorem dX27_trim_66 : decode cX27_trim 66 = .ok (.iload_n 2, 1) := dk_28 (dk_at dksX27_trim_2 19 rfl rfl)
theorem dX27_trim_67 : decode cX27_trim 67 = .ok (.iload_n 1, 1) := dk_27 (dk_at dksX27_trim_2 20 rfl rfl)
theorem dX27_trim_68 : decode cX27_trim 68 = .ok (.isub, 1) := dk_100 (dk_at dksX27_trim_2 21 rfl rfl)
theorem dX27_trim_69 : decode cX27_trim 69 = .ok (.invokestatic 23, 3) := dk_184 0 23 (dk_at dksX27_trim_3 0 rfl rfl)
theorem dX27_trim_72 : decode cX27_trim 72 = .ok (.aload_n 0, 1) := dk_42 (dk_at dksX27_trim_3 3 rfl rfl)
theorem dX27_trim_73 : decode cX27_trim 73 = .ok (.iload_n 2, 1) := dk_28 (dk_at dksX27_trim_3 4 rfl rfl)
theorem dX27_trim_74 : decode cX27_trim 74 = .ok (.iload_n 1, 1) := dk_27 (dk_at dksX27_trim_3 5 rfl rfl)
theorem dX27_trim_75 : decode cX27_trim 75 = .ok (.isub, 1) := dk_100 (dk_at dksX27_trim_3 6 rfl rfl)
theorem dX27_trim_76 : decode cX27_trim 76 = .ok (.putfield 15, 3) := dk_181 0 15 (dk_at dksX27_trim_3 7 rfl rfl)
theorem dX27_trim_79 : decode cX27_trim 79 = .ok (.aload_n 0, 1) := dk_42 (dk_at dksX27_trim_3 10 rfl rfl)
theorem dX27_trim_80 : decode cX27_trim 80 = .ok (.getfield 15, 3) := dk_180 0 15 (dk_at dksX27_trim_3 11 rfl rfl)
theorem dX27_trim_83 : decode cX27_trim 83 = .ok (.ireturn, 1) := dk_172 (dk_at dksX27_trim_3 14 rfl rfl)
abbrev cX27_isBlank : ByteArray := prog_32_method_13_code
def yX27_isBlank : MethodName := ⟨RX27, "isBlank", "(I)Z"⟩
def dkwX27_isBlank_0 : List UInt8 := [26, 16, 9, 161, 0, 9, 26, 16, 13, 164, 0, 9, 26, 16, 32, 160, 0, 7, 4, 167, 0, 4, 3, 172]
abbrev dktX27_isBlank_0 : List UInt8 := dkwX27_isBlank_0 ++ []
theorem dksX27_isBlank_0 : cX27_isBlank.data.toList.drop 0 = dktX27_isBlank_0 := by decide +kernel
theorem dX27_isBlank_0 : decode cX27_isBlank 0 = .ok (.iload_n 0, 1) := dk_26 (dk_at dksX27_isBlank_0 0 rfl rfl)
theorem dX27_isBlank_1 : decode cX27_isBlank 1 = .ok (.bipush 9, 2) := dk_16 9 (dk_at dksX27_isBlank_0 1 rfl rfl)
theorem dX27_isBlank_3 : decode cX27_isBlank 3 = .ok (.if_icmp .lt 9, 3) := dk_161 0 9 (dk_at dksX27_isBlank_0 3 rfl rfl)
theorem dX27_isBlank_6 : decode cX27_isBlank 6 = .ok (.iload_n 0, 1) := dk_26 (dk_at dksX27_isBlank_0 6 rfl rfl)
theorem dX27_isBlank_7 : decode cX27_isBlank 7 = .ok (.bipush 13, 2) := dk_16 13 (dk_at dksX27_isBlank_0 7 rfl rfl)
theorem dX27_isBlank_9 : decode cX27_isBlank 9 = .ok (.if_icmp .le 9, 3) := dk_164 0 9 (dk_at dksX27_isBlank_0 9 rfl rfl)
theorem dX27_isBlank_12 : decode cX27_isBlank 12 = .ok (.iload_n 0, 1) := dk_26 (dk_at dksX27_isBlank_0 12 rfl rfl)
theorem dX27_isBlank_13 : decode cX27_isBlank 13 = .ok (.bipush 32, 2) := dk_16 32 (dk_at dksX27_isBlank_0 13 rfl rfl)
theorem dX27_isBlank_15 : decode cX27_isBlank 15 = .ok (.if_icmp .ne 7, 3) := dk_160 0 7 (dk_at dksX27_isBlank_0 15 rfl rfl)
theorem dX27_isBlank_18 : decode cX27_isBlank 18 = .ok (.iconst 1, 1) := dk_4 (dk_at dksX27_isBlank_0 18 rfl rfl)
theorem dX27_isBlank_19 : decode cX27_isBlank 19 = .ok (.goto 4, 3) := dk_167 0 4 (dk_at dksX27_isBlank_0 19 rfl rfl)
theorem dX27_isBlank_22 : decode cX27_isBlank 22 = .ok (.iconst 0, 1) := dk_3 (dk_at dksX27_isBlank_0 22 rfl rfl)
theorem dX27_isBlank_23 : decode cX27_isBlank 23 = .ok (.ireturn, 1) := dk_172 (dk_at dksX27_isBlank_0 23 rfl rfl)
abbrev cX27_repeat : ByteArray := prog_32_method_15_code
def yX27_repeat : MethodName := ⟨RX27, "repeat", "(I)I"⟩
def dkwX27_repeat_2 : List UInt8 := [184, 0, 23, 132, 3, 1, 167, 255, 232, 42, 28, 27, 104, 181, 0, 15, 42, 180, 0, 15, 172]
abbrev dktX27_repeat_2 : List UInt8 := dkwX27_repeat_2 ++ []
def dkwX27_repeat_1 : List UInt8 := [180, 0, 15, 61, 4, 62, 29, 27, 162, 0, 25, 42, 180, 0, 9, 3, 42, 180, 0, 9, 28, 29, 104, 28]
abbrev dktX27_repeat_1 : List UInt8 := dkwX27_repeat_1 ++ dktX27_repeat_2
def dkwX27_repeat_0 : List UInt8 := [42, 180, 0, 15, 133, 27, 133, 105, 20, 0, 41, 148, 157, 0, 7, 4, 167, 0, 4, 3, 184, 0, 19, 42]
abbrev dktX27_repeat_0 : List UInt8 := dkwX27_repeat_0 ++ dktX27_repeat_1
theorem dksX27_repeat_0 : cX27_repeat.data.toList.drop 0 = dktX27_repeat_0 := by decide +kernel
theorem dksX27_repeat_1 : cX27_repeat.data.toList.drop 24 = dktX27_repeat_1 := dk_seg dksX27_repeat_0 24 rfl rfl
theorem dksX27_repeat_2 : cX27_repeat.data.toList.drop 48 = dktX27_repeat_2 := dk_seg dksX27_repeat_1 24 rfl rfl
theorem dX27_repeat_0 : decode cX27_repeat 0 = .ok (.aload_n 0, 1) := dk_42 (dk_at dksX27_repeat_0 0 rfl rfl)
theorem dX27_repeat_1 : decode cX27_repeat 1 = .ok (.getfield 15, 3) := dk_180 0 15 (dk_at dksX27_repeat_0 1 rfl rfl)
theorem dX27_repeat_4 : decode cX27_repeat 4 = .ok (.i2l, 1) := dk_133 (dk_at dksX27_repeat_0 4 rfl rfl)
theorem dX27_repeat_5 : decode cX27_repeat 5 = .ok (.iload_n 1, 1) := dk_27 (dk_at dksX27_repeat_0 5 rfl rfl)
theorem dX27_repeat_6 : decode cX27_repeat 6 = .ok (.i2l, 1) := dk_133 (dk_at dksX27_repeat_0 6 rfl rfl)
theorem dX27_repeat_7 : decode cX27_repeat 7 = .ok (.lmul, 1) := dk_105 (dk_at dksX27_repeat_0 7 rfl rfl)
theorem dX27_repeat_8 : decode cX27_repeat 8 = .ok (.ldc2_w 41, 3) := dk_20 0 41 (dk_at dksX27_repeat_0 8 rfl rfl)
theorem dX27_repeat_11 : decode cX27_repeat 11 = .ok (.lcmp, 1) := dk_148 (dk_at dksX27_repeat_0 11 rfl rfl)
theorem dX27_repeat_12 : decode cX27_repeat 12 = .ok (.ifCond .gt 7, 3) := dk_157 0 7 (dk_at dksX27_repeat_0 12 rfl rfl)
theorem dX27_repeat_15 : decode cX27_repeat 15 = .ok (.iconst 1, 1) := dk_4 (dk_at dksX27_repeat_0 15 rfl rfl)
theorem dX27_repeat_16 : decode cX27_repeat 16 = .ok (.goto 4, 3) := dk_167 0 4 (dk_at dksX27_repeat_0 16 rfl rfl)
theorem dX27_repeat_19 : decode cX27_repeat 19 = .ok (.iconst 0, 1) := dk_3 (dk_at dksX27_repeat_0 19 rfl rfl)
theorem dX27_repeat_20 : decode cX27_repeat 20 = .ok (.invokestatic 19, 3) := dk_184 0 19 (dk_at dksX27_repeat_0 20 rfl rfl)
theorem dX27_repeat_23 : decode cX27_repeat 23 = .ok (.aload_n 0, 1) := dk_42 (dk_at dksX27_repeat_0 23 rfl rfl)
theorem dX27_repeat_24 : decode cX27_repeat 24 = .ok (.getfield 15, 3) := dk_180 0 15 (dk_at dksX27_repeat_1 0 rfl rfl)
theorem dX27_repeat_27 : decode cX27_repeat 27 = .ok (.istore_n 2, 1) := dk_61 (dk_at dksX27_repeat_1 3 rfl rfl)
theorem dX27_repeat_28 : decode cX27_repeat 28 = .ok (.iconst 1, 1) := dk_4 (dk_at dksX27_repeat_1 4 rfl rfl)
theorem dX27_repeat_29 : decode cX27_repeat 29 = .ok (.istore_n 3, 1) := dk_62 (dk_at dksX27_repeat_1 5 rfl rfl)
theorem dX27_repeat_30 : decode cX27_repeat 30 = .ok (.iload_n 3, 1) := dk_29 (dk_at dksX27_repeat_1 6 rfl rfl)
theorem dX27_repeat_31 : decode cX27_repeat 31 = .ok (.iload_n 1, 1) := dk_27 (dk_at dksX27_repeat_1 7 rfl rfl)
theorem dX27_repeat_32 : decode cX27_repeat 32 = .ok (.if_icmp .ge 25, 3) := dk_162 0 25 (dk_at dksX27_repeat_1 8 rfl rfl)
theorem dX27_repeat_35 : decode cX27_repeat 35 = .ok (.aload_n 0, 1) := dk_42 (dk_at dksX27_repeat_1 11 rfl rfl)
theorem dX27_repeat_36 : decode cX27_repeat 36 = .ok (.getfield 9, 3) := dk_180 0 9 (dk_at dksX27_repeat_1 12 rfl rfl)
theorem dX27_repeat_39 : decode cX27_repeat 39 = .ok (.iconst 0, 1) := dk_3 (dk_at dksX27_repeat_1 15 rfl rfl)
theorem dX27_repeat_40 : decode cX27_repeat 40 = .ok (.aload_n 0, 1) := dk_42 (dk_at dksX27_repeat_1 16 rfl rfl)
theorem dX27_repeat_41 : decode cX27_repeat 41 = .ok (.getfield 9, 3) := dk_180 0 9 (dk_at dksX27_repeat_1 17 rfl rfl)
theorem dX27_repeat_44 : decode cX27_repeat 44 = .ok (.iload_n 2, 1) := dk_28 (dk_at dksX27_repeat_1 20 rfl rfl)
theorem dX27_repeat_45 : decode cX27_repeat 45 = .ok (.iload_n 3, 1) := dk_29 (dk_at dksX27_repeat_1 21 rfl rfl)
theorem dX27_repeat_46 : decode cX27_repeat 46 = .ok (.imul, 1) := dk_104 (dk_at dksX27_repeat_1 22 rfl rfl)
theorem dX27_repeat_47 : decode cX27_repeat 47 = .ok (.iload_n 2, 1) := dk_28 (dk_at dksX27_repeat_1 23 rfl rfl)
theorem dX27_repeat_48 : decode cX27_repeat 48 = .ok (.invokestatic 23, 3) := dk_184 0 23 (dk_at dksX27_repeat_2 0 rfl rfl)
theorem dX27_repeat_51 : decode cX27_repeat 51 = .ok (.iinc 3 1, 3) := dk_132 3 1 (dk_at dksX27_repeat_2 3 rfl rfl)
theorem dX27_repeat_54 : decode cX27_repeat 54 = .ok (.goto (-24), 3) := dk_167 255 232 (dk_at dksX27_repeat_2 6 rfl rfl)
theorem dX27_repeat_57 : decode cX27_repeat 57 = .ok (.aload_n 0, 1) := dk_42 (dk_at dksX27_repeat_2 9 rfl rfl)
theorem dX27_repeat_58 : decode cX27_repeat 58 = .ok (.iload_n 2, 1) := dk_28 (dk_at dksX27_repeat_2 10 rfl rfl)
theorem dX27_repeat_59 : decode cX27_repeat 59 = .ok (.iload_n 1, 1) := dk_27 (dk_at dksX27_repeat_2 11 rfl rfl)
theorem dX27_repeat_60 : decode cX27_repeat 60 = .ok (.imul, 1) := dk_104 (dk_at dksX27_repeat_2 12 rfl rfl)
theorem dX27_repeat_61 : decode cX27_repeat 61 = .ok (.putfield 15, 3) := dk_181 0 15 (dk_at dksX27_repeat_2 13 rfl rfl)
theorem dX27_repeat_64 : decode cX27_repeat 64 = .ok (.aload_n 0, 1) := dk_42 (dk_at dksX27_repeat_2 16 rfl rfl)
theorem dX27_repeat_65 : decode cX27_repeat 65 = .ok (.getfield 15, 3) := dk_180 0 15 (dk_at dksX27_repeat_2 17 rfl rfl)
theorem dX27_repeat_68 : decode cX27_repeat 68 = .ok (.ireturn, 1) := dk_172 (dk_at dksX27_repeat_2 20 rfl rfl)
abbrev cX27_crc : ByteArray := prog_32_method_16_code
def yX27_crc : MethodName := ⟨RX27, "crc", "()I"⟩
def dkwX27_crc_2 : List UInt8 := [132, 3, 1, 167, 255, 228, 132, 2, 1, 167, 255, 204, 27, 2, 130, 172]
abbrev dktX27_crc_2 : List UInt8 := dkwX27_crc_2 ++ []
def dkwX27_crc_1 : List UInt8 := [16, 8, 162, 0, 28, 27, 4, 126, 153, 0, 12, 27, 4, 124, 18, 43, 130, 167, 0, 6, 27, 4, 124, 60]
abbrev dktX27_crc_1 : List UInt8 := dkwX27_crc_1 ++ dktX27_crc_2
def dkwX27_crc_0 : List UInt8 := [2, 60, 3, 61, 28, 42, 180, 0, 15, 162, 0, 50, 27, 42, 28, 182, 0, 33, 130, 60, 3, 62, 29]
abbrev dktX27_crc_0 : List UInt8 := dkwX27_crc_0 ++ dktX27_crc_1
theorem dksX27_crc_0 : cX27_crc.data.toList.drop 0 = dktX27_crc_0 := by decide +kernel
theorem dksX27_crc_1 : cX27_crc.data.toList.drop 23 = dktX27_crc_1 := dk_seg dksX27_crc_0 23 rfl rfl
theorem dksX27_crc_2 : cX27_crc.data.toList.drop 47 = dktX27_crc_2 := dk_seg dksX27_crc_1 24 rfl rfl
theorem dX27_crc_0 : decode cX27_crc 0 = .ok (.iconst (-1), 1) := dk_2 (dk_at dksX27_crc_0 0 rfl rfl)
theorem dX27_crc_1 : decode cX27_crc 1 = .ok (.istore_n 1, 1) := dk_60 (dk_at dksX27_crc_0 1 rfl rfl)
theorem dX27_crc_2 : decode cX27_crc 2 = .ok (.iconst 0, 1) := dk_3 (dk_at dksX27_crc_0 2 rfl rfl)
theorem dX27_crc_3 : decode cX27_crc 3 = .ok (.istore_n 2, 1) := dk_61 (dk_at dksX27_crc_0 3 rfl rfl)
theorem dX27_crc_4 : decode cX27_crc 4 = .ok (.iload_n 2, 1) := dk_28 (dk_at dksX27_crc_0 4 rfl rfl)
theorem dX27_crc_5 : decode cX27_crc 5 = .ok (.aload_n 0, 1) := dk_42 (dk_at dksX27_crc_0 5 rfl rfl)
theorem dX27_crc_6 : decode cX27_crc 6 = .ok (.getfield 15, 3) := dk_180 0 15 (dk_at dksX27_crc_0 6 rfl rfl)
theorem dX27_crc_9 : decode cX27_crc 9 = .ok (.if_icmp .ge 50, 3) := dk_162 0 50 (dk_at dksX27_crc_0 9 rfl rfl)
theorem dX27_crc_12 : decode cX27_crc 12 = .ok (.iload_n 1, 1) := dk_27 (dk_at dksX27_crc_0 12 rfl rfl)
theorem dX27_crc_13 : decode cX27_crc 13 = .ok (.aload_n 0, 1) := dk_42 (dk_at dksX27_crc_0 13 rfl rfl)
theorem dX27_crc_14 : decode cX27_crc 14 = .ok (.iload_n 2, 1) := dk_28 (dk_at dksX27_crc_0 14 rfl rfl)
theorem dX27_crc_15 : decode cX27_crc 15 = .ok (.invokevirtual 33, 3) := dk_182 0 33 (dk_at dksX27_crc_0 15 rfl rfl)
theorem dX27_crc_18 : decode cX27_crc 18 = .ok (.ixor, 1) := dk_130 (dk_at dksX27_crc_0 18 rfl rfl)
theorem dX27_crc_19 : decode cX27_crc 19 = .ok (.istore_n 1, 1) := dk_60 (dk_at dksX27_crc_0 19 rfl rfl)
theorem dX27_crc_20 : decode cX27_crc 20 = .ok (.iconst 0, 1) := dk_3 (dk_at dksX27_crc_0 20 rfl rfl)
theorem dX27_crc_21 : decode cX27_crc 21 = .ok (.istore_n 3, 1) := dk_62 (dk_at dksX27_crc_0 21 rfl rfl)
theorem dX27_crc_22 : decode cX27_crc 22 = .ok (.iload_n 3, 1) := dk_29 (dk_at dksX27_crc_0 22 rfl rfl)
theorem dX27_crc_23 : decode cX27_crc 23 = .ok (.bipush 8, 2) := dk_16 8 (dk_at dksX27_crc_1 0 rfl rfl)
theorem dX27_crc_25 : decode cX27_crc 25 = .ok (.if_icmp .ge 28, 3) := dk_162 0 28 (dk_at dksX27_crc_1 2 rfl rfl)
theorem dX27_crc_28 : decode cX27_crc 28 = .ok (.iload_n 1, 1) := dk_27 (dk_at dksX27_crc_1 5 rfl rfl)
theorem dX27_crc_29 : decode cX27_crc 29 = .ok (.iconst 1, 1) := dk_4 (dk_at dksX27_crc_1 6 rfl rfl)
theorem dX27_crc_30 : decode cX27_crc 30 = .ok (.iand, 1) := dk_126 (dk_at dksX27_crc_1 7 rfl rfl)
theorem dX27_crc_31 : decode cX27_crc 31 = .ok (.ifCond .eq 12, 3) := dk_153 0 12 (dk_at dksX27_crc_1 8 rfl rfl)
theorem dX27_crc_34 : decode cX27_crc 34 = .ok (.iload_n 1, 1) := dk_27 (dk_at dksX27_crc_1 11 rfl rfl)
theorem dX27_crc_35 : decode cX27_crc 35 = .ok (.iconst 1, 1) := dk_4 (dk_at dksX27_crc_1 12 rfl rfl)
theorem dX27_crc_36 : decode cX27_crc 36 = .ok (.iushr, 1) := dk_124 (dk_at dksX27_crc_1 13 rfl rfl)
theorem dX27_crc_37 : decode cX27_crc 37 = .ok (.ldc 43, 2) := dk_18 43 (dk_at dksX27_crc_1 14 rfl rfl)
theorem dX27_crc_39 : decode cX27_crc 39 = .ok (.ixor, 1) := dk_130 (dk_at dksX27_crc_1 16 rfl rfl)
theorem dX27_crc_40 : decode cX27_crc 40 = .ok (.goto 6, 3) := dk_167 0 6 (dk_at dksX27_crc_1 17 rfl rfl)
theorem dX27_crc_43 : decode cX27_crc 43 = .ok (.iload_n 1, 1) := dk_27 (dk_at dksX27_crc_1 20 rfl rfl)
theorem dX27_crc_44 : decode cX27_crc 44 = .ok (.iconst 1, 1) := dk_4 (dk_at dksX27_crc_1 21 rfl rfl)
theorem dX27_crc_45 : decode cX27_crc 45 = .ok (.iushr, 1) := dk_124 (dk_at dksX27_crc_1 22 rfl rfl)
theorem dX27_crc_46 : decode cX27_crc 46 = .ok (.istore_n 1, 1) := dk_60 (dk_at dksX27_crc_1 23 rfl rfl)
theorem dX27_crc_47 : decode cX27_crc 47 = .ok (.iinc 3 1, 3) := dk_132 3 1 (dk_at dksX27_crc_2 0 rfl rfl)
theorem dX27_crc_50 : decode cX27_crc 50 = .ok (.goto (-28), 3) := dk_167 255 228 (dk_at dksX27_crc_2 3 rfl rfl)
theorem dX27_crc_53 : decode cX27_crc 53 = .ok (.iinc 2 1, 3) := dk_132 2 1 (dk_at dksX27_crc_2 6 rfl rfl)
theorem dX27_crc_56 : decode cX27_crc 56 = .ok (.goto (-52), 3) := dk_167 255 204 (dk_at dksX27_crc_2 9 rfl rfl)
theorem dX27_crc_59 : decode cX27_crc 59 = .ok (.iload_n 1, 1) := dk_27 (dk_at dksX27_crc_2 12 rfl rfl)
theorem dX27_crc_60 : decode cX27_crc 60 = .ok (.iconst (-1), 1) := dk_2 (dk_at dksX27_crc_2 13 rfl rfl)
theorem dX27_crc_61 : decode cX27_crc 61 = .ok (.ixor, 1) := dk_130 (dk_at dksX27_crc_2 14 rfl rfl)
theorem dX27_crc_62 : decode cX27_crc 62 = .ok (.ireturn, 1) := dk_172 (dk_at dksX27_crc_2 15 rfl rfl)
abbrev cX27_decode : ByteArray := prog_32_method_21_code
def yX27_decode : MethodName := ⟨RX27, "decode", "([BI)I"⟩
def dkwX27_decode_8 : List UInt8 := [181, 0, 15, 132, 6, 1, 167, 255, 215, 132, 3, 4, 167, 255, 118, 42, 180, 0, 15, 172]
abbrev dktX27_decode_8 : List UInt8 := dkwX27_decode_8 ++ []
def dkwX27_decode_7 : List UInt8 := [42, 180, 0, 15, 21, 5, 16, 16, 16, 8, 21, 6, 104, 100, 122, 145, 84, 42, 89, 180, 0, 15, 4, 96]
abbrev dktX27_decode_7 : List UInt8 := dkwX27_decode_7 ++ dktX27_decode_8
def dkwX27_decode_6 : List UInt8 := [184, 0, 52, 167, 0, 4, 3, 128, 54, 5, 3, 54, 6, 21, 6, 21, 4, 162, 0, 40, 42, 180, 0, 9]
abbrev dktX27_decode_6 : List UInt8 := dkwX27_decode_6 ++ dktX27_decode_7
def dkwX27_decode_5 : List UInt8 := [96, 51, 184, 0, 52, 16, 6, 120, 167, 0, 4, 3, 128, 21, 4, 5, 164, 0, 14, 43, 29, 6, 96, 51]
abbrev dktX27_decode_5 : List UInt8 := dkwX27_decode_5 ++ dktX27_decode_6
def dkwX27_decode_4 : List UInt8 := [16, 18, 120, 43, 29, 4, 96, 51, 184, 0, 52, 16, 12, 120, 128, 21, 4, 4, 164, 0, 17, 43, 29, 5]
abbrev dktX27_decode_4 : List UInt8 := dkwX27_decode_4 ++ dktX27_decode_5
def dkwX27_decode_3 : List UInt8 := [29, 7, 96, 28, 160, 0, 7, 4, 167, 0, 4, 3, 184, 0, 58, 54, 4, 43, 29, 51, 184, 0, 52]
abbrev dktX27_decode_3 : List UInt8 := dkwX27_decode_3 ++ dktX27_decode_4
def dkwX27_decode_2 : List UInt8 := [183, 0, 57, 191, 132, 3, 4, 167, 255, 219, 42, 3, 181, 0, 15, 3, 62, 29, 28, 162, 0, 139, 43, 29]
abbrev dktX27_decode_2 : List UInt8 := dkwX27_decode_2 ++ dktX27_decode_3
def dkwX27_decode_1 : List UInt8 := [29, 7, 96, 28, 160, 0, 7, 4, 167, 0, 4, 3, 184, 0, 58, 154, 0, 12, 187, 0, 55, 89, 29]
abbrev dktX27_decode_1 : List UInt8 := dkwX27_decode_1 ++ dktX27_decode_2
def dkwX27_decode_0 : List UInt8 := [28, 7, 112, 153, 0, 12, 187, 0, 55, 89, 28, 183, 0, 57, 191, 3, 62, 29, 28, 162, 0, 38, 43, 29]
abbrev dktX27_decode_0 : List UInt8 := dkwX27_decode_0 ++ dktX27_decode_1
theorem dksX27_decode_0 : cX27_decode.data.toList.drop 0 = dktX27_decode_0 := by decide +kernel
theorem dksX27_decode_1 : cX27_decode.data.toList.drop 24 = dktX27_decode_1 := dk_seg dksX27_decode_0 24 rfl rfl
theorem dksX27_decode_2 : cX27_decode.data.toList.drop 47 = dktX27_decode_2 := dk_seg dksX27_decode_1 23 rfl rfl
theorem dksX27_decode_3 : cX27_decode.data.toList.drop 71 = dktX27_decode_3 := dk_seg dksX27_decode_2 24 rfl rfl
theorem dksX27_decode_4 : cX27_decode.data.toList.drop 94 = dktX27_decode_4 := dk_seg dksX27_decode_3 23 rfl rfl
theorem dksX27_decode_5 : cX27_decode.data.toList.drop 118 = dktX27_decode_5 := dk_seg dksX27_decode_4 24 rfl rfl
theorem dksX27_decode_6 : cX27_decode.data.toList.drop 142 = dktX27_decode_6 := dk_seg dksX27_decode_5 24 rfl rfl
theorem dksX27_decode_7 : cX27_decode.data.toList.drop 166 = dktX27_decode_7 := dk_seg dksX27_decode_6 24 rfl rfl
theorem dksX27_decode_8 : cX27_decode.data.toList.drop 190 = dktX27_decode_8 := dk_seg dksX27_decode_7 24 rfl rfl
theorem dX27_decode_0 : decode cX27_decode 0 = .ok (.iload_n 2, 1) := dk_28 (dk_at dksX27_decode_0 0 rfl rfl)
theorem dX27_decode_1 : decode cX27_decode 1 = .ok (.iconst 4, 1) := dk_7 (dk_at dksX27_decode_0 1 rfl rfl)
theorem dX27_decode_2 : decode cX27_decode 2 = .ok (.irem, 1) := dk_112 (dk_at dksX27_decode_0 2 rfl rfl)
theorem dX27_decode_3 : decode cX27_decode 3 = .ok (.ifCond .eq 12, 3) := dk_153 0 12 (dk_at dksX27_decode_0 3 rfl rfl)
theorem dX27_decode_6 : decode cX27_decode 6 = .ok (.new 55, 3) := dk_187 0 55 (dk_at dksX27_decode_0 6 rfl rfl)
theorem dX27_decode_9 : decode cX27_decode 9 = .ok (.dup, 1) := dk_89 (dk_at dksX27_decode_0 9 rfl rfl)
theorem dX27_decode_10 : decode cX27_decode 10 = .ok (.iload_n 2, 1) := dk_28 (dk_at dksX27_decode_0 10 rfl rfl)
theorem dX27_decode_11 : decode cX27_decode 11 = .ok (.invokespecial 57, 3) := dk_183 0 57 (dk_at dksX27_decode_0 11 rfl rfl)
theorem dX27_decode_14 : decode cX27_decode 14 = .ok (.athrow, 1) := dk_191 (dk_at dksX27_decode_0 14 rfl rfl)
theorem dX27_decode_15 : decode cX27_decode 15 = .ok (.iconst 0, 1) := dk_3 (dk_at dksX27_decode_0 15 rfl rfl)
theorem dX27_decode_16 : decode cX27_decode 16 = .ok (.istore_n 3, 1) := dk_62 (dk_at dksX27_decode_0 16 rfl rfl)
theorem dX27_decode_17 : decode cX27_decode 17 = .ok (.iload_n 3, 1) := dk_29 (dk_at dksX27_decode_0 17 rfl rfl)
theorem dX27_decode_18 : decode cX27_decode 18 = .ok (.iload_n 2, 1) := dk_28 (dk_at dksX27_decode_0 18 rfl rfl)
theorem dX27_decode_19 : decode cX27_decode 19 = .ok (.if_icmp .ge 38, 3) := dk_162 0 38 (dk_at dksX27_decode_0 19 rfl rfl)
theorem dX27_decode_22 : decode cX27_decode 22 = .ok (.aload_n 1, 1) := dk_43 (dk_at dksX27_decode_0 22 rfl rfl)
theorem dX27_decode_23 : decode cX27_decode 23 = .ok (.iload_n 3, 1) := dk_29 (dk_at dksX27_decode_0 23 rfl rfl)
theorem dX27_decode_24 : decode cX27_decode 24 = .ok (.iload_n 3, 1) := dk_29 (dk_at dksX27_decode_1 0 rfl rfl)
theorem dX27_decode_25 : decode cX27_decode 25 = .ok (.iconst 4, 1) := dk_7 (dk_at dksX27_decode_1 1 rfl rfl)
theorem dX27_decode_26 : decode cX27_decode 26 = .ok (.iadd, 1) := dk_96 (dk_at dksX27_decode_1 2 rfl rfl)
theorem dX27_decode_27 : decode cX27_decode 27 = .ok (.iload_n 2, 1) := dk_28 (dk_at dksX27_decode_1 3 rfl rfl)
theorem dX27_decode_28 : decode cX27_decode 28 = .ok (.if_icmp .ne 7, 3) := dk_160 0 7 (dk_at dksX27_decode_1 4 rfl rfl)
theorem dX27_decode_31 : decode cX27_decode 31 = .ok (.iconst 1, 1) := dk_4 (dk_at dksX27_decode_1 7 rfl rfl)
theorem dX27_decode_32 : decode cX27_decode 32 = .ok (.goto 4, 3) := dk_167 0 4 (dk_at dksX27_decode_1 8 rfl rfl)
theorem dX27_decode_35 : decode cX27_decode 35 = .ok (.iconst 0, 1) := dk_3 (dk_at dksX27_decode_1 11 rfl rfl)
theorem dX27_decode_36 : decode cX27_decode 36 = .ok (.invokestatic 58, 3) := dk_184 0 58 (dk_at dksX27_decode_1 12 rfl rfl)
theorem dX27_decode_39 : decode cX27_decode 39 = .ok (.ifCond .ne 12, 3) := dk_154 0 12 (dk_at dksX27_decode_1 15 rfl rfl)
theorem dX27_decode_42 : decode cX27_decode 42 = .ok (.new 55, 3) := dk_187 0 55 (dk_at dksX27_decode_1 18 rfl rfl)
theorem dX27_decode_45 : decode cX27_decode 45 = .ok (.dup, 1) := dk_89 (dk_at dksX27_decode_1 21 rfl rfl)
theorem dX27_decode_46 : decode cX27_decode 46 = .ok (.iload_n 3, 1) := dk_29 (dk_at dksX27_decode_1 22 rfl rfl)
theorem dX27_decode_47 : decode cX27_decode 47 = .ok (.invokespecial 57, 3) := dk_183 0 57 (dk_at dksX27_decode_2 0 rfl rfl)
theorem dX27_decode_50 : decode cX27_decode 50 = .ok (.athrow, 1) := dk_191 (dk_at dksX27_decode_2 3 rfl rfl)
theorem dX27_decode_51 : decode cX27_decode 51 = .ok (.iinc 3 4, 3) := dk_132 3 4 (dk_at dksX27_decode_2 4 rfl rfl)
theorem dX27_decode_54 : decode cX27_decode 54 = .ok (.goto (-37), 3) := dk_167 255 219 (dk_at dksX27_decode_2 7 rfl rfl)
theorem dX27_decode_57 : decode cX27_decode 57 = .ok (.aload_n 0, 1) := dk_42 (dk_at dksX27_decode_2 10 rfl rfl)
theorem dX27_decode_58 : decode cX27_decode 58 = .ok (.iconst 0, 1) := dk_3 (dk_at dksX27_decode_2 11 rfl rfl)
theorem dX27_decode_59 : decode cX27_decode 59 = .ok (.putfield 15, 3) := dk_181 0 15 (dk_at dksX27_decode_2 12 rfl rfl)
theorem dX27_decode_62 : decode cX27_decode 62 = .ok (.iconst 0, 1) := dk_3 (dk_at dksX27_decode_2 15 rfl rfl)
theorem dX27_decode_63 : decode cX27_decode 63 = .ok (.istore_n 3, 1) := dk_62 (dk_at dksX27_decode_2 16 rfl rfl)
theorem dX27_decode_64 : decode cX27_decode 64 = .ok (.iload_n 3, 1) := dk_29 (dk_at dksX27_decode_2 17 rfl rfl)
theorem dX27_decode_65 : decode cX27_decode 65 = .ok (.iload_n 2, 1) := dk_28 (dk_at dksX27_decode_2 18 rfl rfl)
theorem dX27_decode_66 : decode cX27_decode 66 = .ok (.if_icmp .ge 139, 3) := dk_162 0 139 (dk_at dksX27_decode_2 19 rfl rfl)
theorem dX27_decode_69 : decode cX27_decode 69 = .ok (.aload_n 1, 1) := dk_43 (dk_at dksX27_decode_2 22 rfl rfl)
theorem dX27_decode_70 : decode cX27_decode 70 = .ok (.iload_n 3, 1) := dk_29 (dk_at dksX27_decode_2 23 rfl rfl)
theorem dX27_decode_71 : decode cX27_decode 71 = .ok (.iload_n 3, 1) := dk_29 (dk_at dksX27_decode_3 0 rfl rfl)
theorem dX27_decode_72 : decode cX27_decode 72 = .ok (.iconst 4, 1) := dk_7 (dk_at dksX27_decode_3 1 rfl rfl)
theorem dX27_decode_73 : decode cX27_decode 73 = .ok (.iadd, 1) := dk_96 (dk_at dksX27_decode_3 2 rfl rfl)
theorem dX27_decode_74 : decode cX27_decode 74 = .ok (.iload_n 2, 1) := dk_28 (dk_at dksX27_decode_3 3 rfl rfl)
theorem dX27_decode_75 : decode cX27_decode 75 = .ok (.if_icmp .ne 7, 3) := dk_160 0 7 (dk_at dksX27_decode_3 4 rfl rfl)
theorem dX27_decode_78 : decode cX27_decode 78 = .ok (.iconst 1, 1) := dk_4 (dk_at dksX27_decode_3 7 rfl rfl)
theorem dX27_decode_79 : decode cX27_decode 79 = .ok (.goto 4, 3) := dk_167 0 4 (dk_at dksX27_decode_3 8 rfl rfl)
theorem dX27_decode_82 : decode cX27_decode 82 = .ok (.iconst 0, 1) := dk_3 (dk_at dksX27_decode_3 11 rfl rfl)
theorem dX27_decode_83 : decode cX27_decode 83 = .ok (.invokestatic 58, 3) := dk_184 0 58 (dk_at dksX27_decode_3 12 rfl rfl)
theorem dX27_decode_86 : decode cX27_decode 86 = .ok (.istore 4, 2) := dk_54 4 (dk_at dksX27_decode_3 15 rfl rfl)
theorem dX27_decode_88 : decode cX27_decode 88 = .ok (.aload_n 1, 1) := dk_43 (dk_at dksX27_decode_3 17 rfl rfl)
theorem dX27_decode_89 : decode cX27_decode 89 = .ok (.iload_n 3, 1) := dk_29 (dk_at dksX27_decode_3 18 rfl rfl)
theorem dX27_decode_90 : decode cX27_decode 90 = .ok (.baload, 1) := dk_51 (dk_at dksX27_decode_3 19 rfl rfl)
theorem dX27_decode_91 : decode cX27_decode 91 = .ok (.invokestatic 52, 3) := dk_184 0 52 (dk_at dksX27_decode_3 20 rfl rfl)
theorem dX27_decode_94 : decode cX27_decode 94 = .ok (.bipush 18, 2) := dk_16 18 (dk_at dksX27_decode_4 0 rfl rfl)
theorem dX27_decode_96 : decode cX27_decode 96 = .ok (.ishl, 1) := dk_120 (dk_at dksX27_decode_4 2 rfl rfl)
theorem dX27_decode_97 : decode cX27_decode 97 = .ok (.aload_n 1, 1) := dk_43 (dk_at dksX27_decode_4 3 rfl rfl)
theorem dX27_decode_98 : decode cX27_decode 98 = .ok (.iload_n 3, 1) := dk_29 (dk_at dksX27_decode_4 4 rfl rfl)
theorem dX27_decode_99 : decode cX27_decode 99 = .ok (.iconst 1, 1) := dk_4 (dk_at dksX27_decode_4 5 rfl rfl)
theorem dX27_decode_100 : decode cX27_decode 100 = .ok (.iadd, 1) := dk_96 (dk_at dksX27_decode_4 6 rfl rfl)
theorem dX27_decode_101 : decode cX27_decode 101 = .ok (.baload, 1) := dk_51 (dk_at dksX27_decode_4 7 rfl rfl)
theorem dX27_decode_102 : decode cX27_decode 102 = .ok (.invokestatic 52, 3) := dk_184 0 52 (dk_at dksX27_decode_4 8 rfl rfl)
theorem dX27_decode_105 : decode cX27_decode 105 = .ok (.bipush 12, 2) := dk_16 12 (dk_at dksX27_decode_4 11 rfl rfl)
theorem dX27_decode_107 : decode cX27_decode 107 = .ok (.ishl, 1) := dk_120 (dk_at dksX27_decode_4 13 rfl rfl)
theorem dX27_decode_108 : decode cX27_decode 108 = .ok (.ior, 1) := dk_128 (dk_at dksX27_decode_4 14 rfl rfl)
theorem dX27_decode_109 : decode cX27_decode 109 = .ok (.iload 4, 2) := dk_21 4 (dk_at dksX27_decode_4 15 rfl rfl)
theorem dX27_decode_111 : decode cX27_decode 111 = .ok (.iconst 1, 1) := dk_4 (dk_at dksX27_decode_4 17 rfl rfl)
theorem dX27_decode_112 : decode cX27_decode 112 = .ok (.if_icmp .le 17, 3) := dk_164 0 17 (dk_at dksX27_decode_4 18 rfl rfl)
theorem dX27_decode_115 : decode cX27_decode 115 = .ok (.aload_n 1, 1) := dk_43 (dk_at dksX27_decode_4 21 rfl rfl)
theorem dX27_decode_116 : decode cX27_decode 116 = .ok (.iload_n 3, 1) := dk_29 (dk_at dksX27_decode_4 22 rfl rfl)
theorem dX27_decode_117 : decode cX27_decode 117 = .ok (.iconst 2, 1) := dk_5 (dk_at dksX27_decode_4 23 rfl rfl)
theorem dX27_decode_118 : decode cX27_decode 118 = .ok (.iadd, 1) := dk_96 (dk_at dksX27_decode_5 0 rfl rfl)
theorem dX27_decode_119 : decode cX27_decode 119 = .ok (.baload, 1) := dk_51 (dk_at dksX27_decode_5 1 rfl rfl)
theorem dX27_decode_120 : decode cX27_decode 120 = .ok (.invokestatic 52, 3) := dk_184 0 52 (dk_at dksX27_decode_5 2 rfl rfl)
theorem dX27_decode_123 : decode cX27_decode 123 = .ok (.bipush 6, 2) := dk_16 6 (dk_at dksX27_decode_5 5 rfl rfl)
theorem dX27_decode_125 : decode cX27_decode 125 = .ok (.ishl, 1) := dk_120 (dk_at dksX27_decode_5 7 rfl rfl)
theorem dX27_decode_126 : decode cX27_decode 126 = .ok (.goto 4, 3) := dk_167 0 4 (dk_at dksX27_decode_5 8 rfl rfl)
theorem dX27_decode_129 : decode cX27_decode 129 = .ok (.iconst 0, 1) := dk_3 (dk_at dksX27_decode_5 11 rfl rfl)
theorem dX27_decode_130 : decode cX27_decode 130 = .ok (.ior, 1) := dk_128 (dk_at dksX27_decode_5 12 rfl rfl)
theorem dX27_decode_131 : decode cX27_decode 131 = .ok (.iload 4, 2) := dk_21 4 (dk_at dksX27_decode_5 13 rfl rfl)
theorem dX27_decode_133 : decode cX27_decode 133 = .ok (.iconst 2, 1) := dk_5 (dk_at dksX27_decode_5 15 rfl rfl)
theorem dX27_decode_134 : decode cX27_decode 134 = .ok (.if_icmp .le 14, 3) := dk_164 0 14 (dk_at dksX27_decode_5 16 rfl rfl)
theorem dX27_decode_137 : decode cX27_decode 137 = .ok (.aload_n 1, 1) := dk_43 (dk_at dksX27_decode_5 19 rfl rfl)
theorem dX27_decode_138 : decode cX27_decode 138 = .ok (.iload_n 3, 1) := dk_29 (dk_at dksX27_decode_5 20 rfl rfl)
theorem dX27_decode_139 : decode cX27_decode 139 = .ok (.iconst 3, 1) := dk_6 (dk_at dksX27_decode_5 21 rfl rfl)
theorem dX27_decode_140 : decode cX27_decode 140 = .ok (.iadd, 1) := dk_96 (dk_at dksX27_decode_5 22 rfl rfl)
theorem dX27_decode_141 : decode cX27_decode 141 = .ok (.baload, 1) := dk_51 (dk_at dksX27_decode_5 23 rfl rfl)
theorem dX27_decode_142 : decode cX27_decode 142 = .ok (.invokestatic 52, 3) := dk_184 0 52 (dk_at dksX27_decode_6 0 rfl rfl)
theorem dX27_decode_145 : decode cX27_decode 145 = .ok (.goto 4, 3) := dk_167 0 4 (dk_at dksX27_decode_6 3 rfl rfl)
theorem dX27_decode_148 : decode cX27_decode 148 = .ok (.iconst 0, 1) := dk_3 (dk_at dksX27_decode_6 6 rfl rfl)
theorem dX27_decode_149 : decode cX27_decode 149 = .ok (.ior, 1) := dk_128 (dk_at dksX27_decode_6 7 rfl rfl)
theorem dX27_decode_150 : decode cX27_decode 150 = .ok (.istore 5, 2) := dk_54 5 (dk_at dksX27_decode_6 8 rfl rfl)
theorem dX27_decode_152 : decode cX27_decode 152 = .ok (.iconst 0, 1) := dk_3 (dk_at dksX27_decode_6 10 rfl rfl)
theorem dX27_decode_153 : decode cX27_decode 153 = .ok (.istore 6, 2) := dk_54 6 (dk_at dksX27_decode_6 11 rfl rfl)
theorem dX27_decode_155 : decode cX27_decode 155 = .ok (.iload 6, 2) := dk_21 6 (dk_at dksX27_decode_6 13 rfl rfl)
theorem dX27_decode_157 : decode cX27_decode 157 = .ok (.iload 4, 2) := dk_21 4 (dk_at dksX27_decode_6 15 rfl rfl)
theorem dX27_decode_159 : decode cX27_decode 159 = .ok (.if_icmp .ge 40, 3) := dk_162 0 40 (dk_at dksX27_decode_6 17 rfl rfl)
theorem dX27_decode_162 : decode cX27_decode 162 = .ok (.aload_n 0, 1) := dk_42 (dk_at dksX27_decode_6 20 rfl rfl)
theorem dX27_decode_163 : decode cX27_decode 163 = .ok (.getfield 9, 3) := dk_180 0 9 (dk_at dksX27_decode_6 21 rfl rfl)
theorem dX27_decode_166 : decode cX27_decode 166 = .ok (.aload_n 0, 1) := dk_42 (dk_at dksX27_decode_7 0 rfl rfl)
theorem dX27_decode_167 : decode cX27_decode 167 = .ok (.getfield 15, 3) := dk_180 0 15 (dk_at dksX27_decode_7 1 rfl rfl)
theorem dX27_decode_170 : decode cX27_decode 170 = .ok (.iload 5, 2) := dk_21 5 (dk_at dksX27_decode_7 4 rfl rfl)
theorem dX27_decode_172 : decode cX27_decode 172 = .ok (.bipush 16, 2) := dk_16 16 (dk_at dksX27_decode_7 6 rfl rfl)
theorem dX27_decode_174 : decode cX27_decode 174 = .ok (.bipush 8, 2) := dk_16 8 (dk_at dksX27_decode_7 8 rfl rfl)
theorem dX27_decode_176 : decode cX27_decode 176 = .ok (.iload 6, 2) := dk_21 6 (dk_at dksX27_decode_7 10 rfl rfl)
theorem dX27_decode_178 : decode cX27_decode 178 = .ok (.imul, 1) := dk_104 (dk_at dksX27_decode_7 12 rfl rfl)
theorem dX27_decode_179 : decode cX27_decode 179 = .ok (.isub, 1) := dk_100 (dk_at dksX27_decode_7 13 rfl rfl)
theorem dX27_decode_180 : decode cX27_decode 180 = .ok (.ishr, 1) := dk_122 (dk_at dksX27_decode_7 14 rfl rfl)
theorem dX27_decode_181 : decode cX27_decode 181 = .ok (.i2b, 1) := dk_145 (dk_at dksX27_decode_7 15 rfl rfl)
theorem dX27_decode_182 : decode cX27_decode 182 = .ok (.bastore, 1) := dk_84 (dk_at dksX27_decode_7 16 rfl rfl)
theorem dX27_decode_183 : decode cX27_decode 183 = .ok (.aload_n 0, 1) := dk_42 (dk_at dksX27_decode_7 17 rfl rfl)
theorem dX27_decode_184 : decode cX27_decode 184 = .ok (.dup, 1) := dk_89 (dk_at dksX27_decode_7 18 rfl rfl)
theorem dX27_decode_185 : decode cX27_decode 185 = .ok (.getfield 15, 3) := dk_180 0 15 (dk_at dksX27_decode_7 19 rfl rfl)
theorem dX27_decode_188 : decode cX27_decode 188 = .ok (.iconst 1, 1) := dk_4 (dk_at dksX27_decode_7 22 rfl rfl)
theorem dX27_decode_189 : decode cX27_decode 189 = .ok (.iadd, 1) := dk_96 (dk_at dksX27_decode_7 23 rfl rfl)
theorem dX27_decode_190 : decode cX27_decode 190 = .ok (.putfield 15, 3) := dk_181 0 15 (dk_at dksX27_decode_8 0 rfl rfl)
theorem dX27_decode_193 : decode cX27_decode 193 = .ok (.iinc 6 1, 3) := dk_132 6 1 (dk_at dksX27_decode_8 3 rfl rfl)
theorem dX27_decode_196 : decode cX27_decode 196 = .ok (.goto (-41), 3) := dk_167 255 215 (dk_at dksX27_decode_8 6 rfl rfl)
theorem dX27_decode_199 : decode cX27_decode 199 = .ok (.iinc 3 4, 3) := dk_132 3 4 (dk_at dksX27_decode_8 9 rfl rfl)
theorem dX27_decode_202 : decode cX27_decode 202 = .ok (.goto (-138), 3) := dk_167 255 118 (dk_at dksX27_decode_8 12 rfl rfl)
theorem dX27_decode_205 : decode cX27_decode 205 = .ok (.aload_n 0, 1) := dk_42 (dk_at dksX27_decode_8 15 rfl rfl)
theorem dX27_decode_206 : decode cX27_decode 206 = .ok (.getfield 15, 3) := dk_180 0 15 (dk_at dksX27_decode_8 16 rfl rfl)
theorem dX27_decode_209 : decode cX27_decode 209 = .ok (.ireturn, 1) := dk_172 (dk_at dksX27_decode_8 19 rfl rfl)
abbrev cX27_four : ByteArray := prog_32_method_20_code
def yX27_four : MethodName := ⟨RX27, "fou\x72", "([BIZ)I"⟩
def dkwX27_four_4 : List UInt8 := [153, 0, 5, 3, 172, 29, 172]
abbrev dktX27_four_4 : List UInt8 := dkwX27_four_4 ++ []
def dkwX27_four_3 : List UInt8 := [184, 0, 52, 16, 15, 126, 154, 0, 21, 29, 5, 160, 0, 18, 42, 27, 5, 96, 51, 184, 0, 52, 6, 126]
abbrev dktX27_four_3 : List UInt8 := dkwX27_four_3 ++ dktX27_four_4
def dkwX27_four_2 : List UInt8 := [184, 0, 52, 156, 0, 5, 3, 172, 132, 4, 1, 167, 255, 233, 29, 4, 160, 0, 17, 42, 27, 4, 96, 51]
abbrev dktX27_four_2 : List UInt8 := dkwX27_four_2 ++ dktX27_four_3
def dkwX27_four_1 : List UInt8 := [160, 0, 7, 4, 167, 0, 4, 5, 62, 3, 54, 4, 21, 4, 29, 163, 0, 23, 42, 27, 21, 4, 96, 51]
abbrev dktX27_four_1 : List UInt8 := dkwX27_four_1 ++ dktX27_four_2
def dkwX27_four_0 : List UInt8 := [6, 62, 28, 153, 0, 29, 42, 27, 6, 96, 51, 16, 61, 160, 0, 19, 42, 27, 5, 96, 51, 16, 61]
abbrev dktX27_four_0 : List UInt8 := dkwX27_four_0 ++ dktX27_four_1
theorem dksX27_four_0 : cX27_four.data.toList.drop 0 = dktX27_four_0 := by decide +kernel
theorem dksX27_four_1 : cX27_four.data.toList.drop 23 = dktX27_four_1 := dk_seg dksX27_four_0 23 rfl rfl
theorem dksX27_four_2 : cX27_four.data.toList.drop 47 = dktX27_four_2 := dk_seg dksX27_four_1 24 rfl rfl
theorem dksX27_four_3 : cX27_four.data.toList.drop 71 = dktX27_four_3 := dk_seg dksX27_four_2 24 rfl rfl
theorem dksX27_four_4 : cX27_four.data.toList.drop 95 = dktX27_four_4 := dk_seg dksX27_four_3 24 rfl rfl
theorem dX27_four_0 : decode cX27_four 0 = .ok (.iconst 3, 1) := dk_6 (dk_at dksX27_four_0 0 rfl rfl)
theorem dX27_four_1 : decode cX27_four 1 = .ok (.istore_n 3, 1) := dk_62 (dk_at dksX27_four_0 1 rfl rfl)
theorem dX27_four_2 : decode cX27_four 2 = .ok (.iload_n 2, 1) := dk_28 (dk_at dksX27_four_0 2 rfl rfl)
theorem dX27_four_3 : decode cX27_four 3 = .ok (.ifCond .eq 29, 3) := dk_153 0 29 (dk_at dksX27_four_0 3 rfl rfl)
theorem dX27_four_6 : decode cX27_four 6 = .ok (.aload_n 0, 1) := dk_42 (dk_at dksX27_four_0 6 rfl rfl)
theorem dX27_four_7 : decode cX27_four 7 = .ok (.iload_n 1, 1) := dk_27 (dk_at dksX27_four_0 7 rfl rfl)
theorem dX27_four_8 : decode cX27_four 8 = .ok (.iconst 3, 1) := dk_6 (dk_at dksX27_four_0 8 rfl rfl)
theorem dX27_four_9 : decode cX27_four 9 = .ok (.iadd, 1) := dk_96 (dk_at dksX27_four_0 9 rfl rfl)
theorem dX27_four_10 : decode cX27_four 10 = .ok (.baload, 1) := dk_51 (dk_at dksX27_four_0 10 rfl rfl)
theorem dX27_four_11 : decode cX27_four 11 = .ok (.bipush 61, 2) := dk_16 61 (dk_at dksX27_four_0 11 rfl rfl)
theorem dX27_four_13 : decode cX27_four 13 = .ok (.if_icmp .ne 19, 3) := dk_160 0 19 (dk_at dksX27_four_0 13 rfl rfl)
theorem dX27_four_16 : decode cX27_four 16 = .ok (.aload_n 0, 1) := dk_42 (dk_at dksX27_four_0 16 rfl rfl)
theorem dX27_four_17 : decode cX27_four 17 = .ok (.iload_n 1, 1) := dk_27 (dk_at dksX27_four_0 17 rfl rfl)
theorem dX27_four_18 : decode cX27_four 18 = .ok (.iconst 2, 1) := dk_5 (dk_at dksX27_four_0 18 rfl rfl)
theorem dX27_four_19 : decode cX27_four 19 = .ok (.iadd, 1) := dk_96 (dk_at dksX27_four_0 19 rfl rfl)
theorem dX27_four_20 : decode cX27_four 20 = .ok (.baload, 1) := dk_51 (dk_at dksX27_four_0 20 rfl rfl)
theorem dX27_four_21 : decode cX27_four 21 = .ok (.bipush 61, 2) := dk_16 61 (dk_at dksX27_four_0 21 rfl rfl)
theorem dX27_four_23 : decode cX27_four 23 = .ok (.if_icmp .ne 7, 3) := dk_160 0 7 (dk_at dksX27_four_1 0 rfl rfl)
theorem dX27_four_26 : decode cX27_four 26 = .ok (.iconst 1, 1) := dk_4 (dk_at dksX27_four_1 3 rfl rfl)
theorem dX27_four_27 : decode cX27_four 27 = .ok (.goto 4, 3) := dk_167 0 4 (dk_at dksX27_four_1 4 rfl rfl)
theorem dX27_four_30 : decode cX27_four 30 = .ok (.iconst 2, 1) := dk_5 (dk_at dksX27_four_1 7 rfl rfl)
theorem dX27_four_31 : decode cX27_four 31 = .ok (.istore_n 3, 1) := dk_62 (dk_at dksX27_four_1 8 rfl rfl)
theorem dX27_four_32 : decode cX27_four 32 = .ok (.iconst 0, 1) := dk_3 (dk_at dksX27_four_1 9 rfl rfl)
theorem dX27_four_33 : decode cX27_four 33 = .ok (.istore 4, 2) := dk_54 4 (dk_at dksX27_four_1 10 rfl rfl)
theorem dX27_four_35 : decode cX27_four 35 = .ok (.iload 4, 2) := dk_21 4 (dk_at dksX27_four_1 12 rfl rfl)
theorem dX27_four_37 : decode cX27_four 37 = .ok (.iload_n 3, 1) := dk_29 (dk_at dksX27_four_1 14 rfl rfl)
theorem dX27_four_38 : decode cX27_four 38 = .ok (.if_icmp .gt 23, 3) := dk_163 0 23 (dk_at dksX27_four_1 15 rfl rfl)
theorem dX27_four_41 : decode cX27_four 41 = .ok (.aload_n 0, 1) := dk_42 (dk_at dksX27_four_1 18 rfl rfl)
theorem dX27_four_42 : decode cX27_four 42 = .ok (.iload_n 1, 1) := dk_27 (dk_at dksX27_four_1 19 rfl rfl)
theorem dX27_four_43 : decode cX27_four 43 = .ok (.iload 4, 2) := dk_21 4 (dk_at dksX27_four_1 20 rfl rfl)
theorem dX27_four_45 : decode cX27_four 45 = .ok (.iadd, 1) := dk_96 (dk_at dksX27_four_1 22 rfl rfl)
theorem dX27_four_46 : decode cX27_four 46 = .ok (.baload, 1) := dk_51 (dk_at dksX27_four_1 23 rfl rfl)
theorem dX27_four_47 : decode cX27_four 47 = .ok (.invokestatic 52, 3) := dk_184 0 52 (dk_at dksX27_four_2 0 rfl rfl)
theorem dX27_four_50 : decode cX27_four 50 = .ok (.ifCond .ge 5, 3) := dk_156 0 5 (dk_at dksX27_four_2 3 rfl rfl)
theorem dX27_four_53 : decode cX27_four 53 = .ok (.iconst 0, 1) := dk_3 (dk_at dksX27_four_2 6 rfl rfl)
theorem dX27_four_54 : decode cX27_four 54 = .ok (.ireturn, 1) := dk_172 (dk_at dksX27_four_2 7 rfl rfl)
theorem dX27_four_55 : decode cX27_four 55 = .ok (.iinc 4 1, 3) := dk_132 4 1 (dk_at dksX27_four_2 8 rfl rfl)
theorem dX27_four_58 : decode cX27_four 58 = .ok (.goto (-23), 3) := dk_167 255 233 (dk_at dksX27_four_2 11 rfl rfl)
theorem dX27_four_61 : decode cX27_four 61 = .ok (.iload_n 3, 1) := dk_29 (dk_at dksX27_four_2 14 rfl rfl)
theorem dX27_four_62 : decode cX27_four 62 = .ok (.iconst 1, 1) := dk_4 (dk_at dksX27_four_2 15 rfl rfl)
theorem dX27_four_63 : decode cX27_four 63 = .ok (.if_icmp .ne 17, 3) := dk_160 0 17 (dk_at dksX27_four_2 16 rfl rfl)
theorem dX27_four_66 : decode cX27_four 66 = .ok (.aload_n 0, 1) := dk_42 (dk_at dksX27_four_2 19 rfl rfl)
theorem dX27_four_67 : decode cX27_four 67 = .ok (.iload_n 1, 1) := dk_27 (dk_at dksX27_four_2 20 rfl rfl)
theorem dX27_four_68 : decode cX27_four 68 = .ok (.iconst 1, 1) := dk_4 (dk_at dksX27_four_2 21 rfl rfl)
theorem dX27_four_69 : decode cX27_four 69 = .ok (.iadd, 1) := dk_96 (dk_at dksX27_four_2 22 rfl rfl)
theorem dX27_four_70 : decode cX27_four 70 = .ok (.baload, 1) := dk_51 (dk_at dksX27_four_2 23 rfl rfl)
theorem dX27_four_71 : decode cX27_four 71 = .ok (.invokestatic 52, 3) := dk_184 0 52 (dk_at dksX27_four_3 0 rfl rfl)
theorem dX27_four_74 : decode cX27_four 74 = .ok (.bipush 15, 2) := dk_16 15 (dk_at dksX27_four_3 3 rfl rfl)
theorem dX27_four_76 : decode cX27_four 76 = .ok (.iand, 1) := dk_126 (dk_at dksX27_four_3 5 rfl rfl)
theorem dX27_four_77 : decode cX27_four 77 = .ok (.ifCond .ne 21, 3) := dk_154 0 21 (dk_at dksX27_four_3 6 rfl rfl)
theorem dX27_four_80 : decode cX27_four 80 = .ok (.iload_n 3, 1) := dk_29 (dk_at dksX27_four_3 9 rfl rfl)
theorem dX27_four_81 : decode cX27_four 81 = .ok (.iconst 2, 1) := dk_5 (dk_at dksX27_four_3 10 rfl rfl)
theorem dX27_four_82 : decode cX27_four 82 = .ok (.if_icmp .ne 18, 3) := dk_160 0 18 (dk_at dksX27_four_3 11 rfl rfl)
theorem dX27_four_85 : decode cX27_four 85 = .ok (.aload_n 0, 1) := dk_42 (dk_at dksX27_four_3 14 rfl rfl)
theorem dX27_four_86 : decode cX27_four 86 = .ok (.iload_n 1, 1) := dk_27 (dk_at dksX27_four_3 15 rfl rfl)
theorem dX27_four_87 : decode cX27_four 87 = .ok (.iconst 2, 1) := dk_5 (dk_at dksX27_four_3 16 rfl rfl)
theorem dX27_four_88 : decode cX27_four 88 = .ok (.iadd, 1) := dk_96 (dk_at dksX27_four_3 17 rfl rfl)
theorem dX27_four_89 : decode cX27_four 89 = .ok (.baload, 1) := dk_51 (dk_at dksX27_four_3 18 rfl rfl)
theorem dX27_four_90 : decode cX27_four 90 = .ok (.invokestatic 52, 3) := dk_184 0 52 (dk_at dksX27_four_3 19 rfl rfl)
theorem dX27_four_93 : decode cX27_four 93 = .ok (.iconst 3, 1) := dk_6 (dk_at dksX27_four_3 22 rfl rfl)
theorem dX27_four_94 : decode cX27_four 94 = .ok (.iand, 1) := dk_126 (dk_at dksX27_four_3 23 rfl rfl)
theorem dX27_four_95 : decode cX27_four 95 = .ok (.ifCond .eq 5, 3) := dk_153 0 5 (dk_at dksX27_four_4 0 rfl rfl)
theorem dX27_four_98 : decode cX27_four 98 = .ok (.iconst 0, 1) := dk_3 (dk_at dksX27_four_4 3 rfl rfl)
theorem dX27_four_99 : decode cX27_four 99 = .ok (.ireturn, 1) := dk_172 (dk_at dksX27_four_4 4 rfl rfl)
theorem dX27_four_100 : decode cX27_four 100 = .ok (.iload_n 3, 1) := dk_29 (dk_at dksX27_four_4 5 rfl rfl)
theorem dX27_four_101 : decode cX27_four 101 = .ok (.ireturn, 1) := dk_172 (dk_at dksX27_four_4 6 rfl rfl)
abbrev cX27_worth : ByteArray := prog_32_method_18_code
def yX27_worth : MethodName := ⟨RX27, "worth", "(I)I"⟩
def dkwX27_worth_3 : List UInt8 := [16, 47, 160, 0, 8, 16, 63, 167, 0, 4, 2, 172]
abbrev dktX27_worth_3 : List UInt8 := dkwX27_worth_3 ++ []
def dkwX27_worth_2 : List UInt8 := [163, 0, 11, 26, 16, 48, 100, 16, 52, 96, 172, 26, 16, 43, 160, 0, 8, 16, 62, 167, 0, 15, 26]
abbrev dktX27_worth_2 : List UInt8 := dkwX27_worth_2 ++ dktX27_worth_3
def dkwX27_worth_1 : List UInt8 := [16, 122, 163, 0, 11, 26, 16, 97, 100, 16, 26, 96, 172, 26, 16, 48, 161, 0, 17, 26, 16, 57]
abbrev dktX27_worth_1 : List UInt8 := dkwX27_worth_1 ++ dktX27_worth_2
def dkwX27_worth_0 : List UInt8 := [26, 16, 65, 161, 0, 14, 26, 16, 90, 163, 0, 8, 26, 16, 65, 100, 172, 26, 16, 97, 161, 0, 17, 26]
abbrev dktX27_worth_0 : List UInt8 := dkwX27_worth_0 ++ dktX27_worth_1
theorem dksX27_worth_0 : cX27_worth.data.toList.drop 0 = dktX27_worth_0 := by decide +kernel
theorem dksX27_worth_1 : cX27_worth.data.toList.drop 24 = dktX27_worth_1 := dk_seg dksX27_worth_0 24 rfl rfl
theorem dksX27_worth_2 : cX27_worth.data.toList.drop 46 = dktX27_worth_2 := dk_seg dksX27_worth_1 22 rfl rfl
theorem dksX27_worth_3 : cX27_worth.data.toList.drop 69 = dktX27_worth_3 := dk_seg dksX27_worth_2 23 rfl rfl
theorem dX27_worth_0 : decode cX27_worth 0 = .ok (.iload_n 0, 1) := dk_26 (dk_at dksX27_worth_0 0 rfl rfl)
theorem dX27_worth_1 : decode cX27_worth 1 = .ok (.bipush 65, 2) := dk_16 65 (dk_at dksX27_worth_0 1 rfl rfl)
theorem dX27_worth_3 : decode cX27_worth 3 = .ok (.if_icmp .lt 14, 3) := dk_161 0 14 (dk_at dksX27_worth_0 3 rfl rfl)
theorem dX27_worth_6 : decode cX27_worth 6 = .ok (.iload_n 0, 1) := dk_26 (dk_at dksX27_worth_0 6 rfl rfl)
theorem dX27_worth_7 : decode cX27_worth 7 = .ok (.bipush 90, 2) := dk_16 90 (dk_at dksX27_worth_0 7 rfl rfl)
theorem dX27_worth_9 : decode cX27_worth 9 = .ok (.if_icmp .gt 8, 3) := dk_163 0 8 (dk_at dksX27_worth_0 9 rfl rfl)
theorem dX27_worth_12 : decode cX27_worth 12 = .ok (.iload_n 0, 1) := dk_26 (dk_at dksX27_worth_0 12 rfl rfl)
theorem dX27_worth_13 : decode cX27_worth 13 = .ok (.bipush 65, 2) := dk_16 65 (dk_at dksX27_worth_0 13 rfl rfl)
theorem dX27_worth_15 : decode cX27_worth 15 = .ok (.isub, 1) := dk_100 (dk_at dksX27_worth_0 15 rfl rfl)
theorem dX27_worth_16 : decode cX27_worth 16 = .ok (.ireturn, 1) := dk_172 (dk_at dksX27_worth_0 16 rfl rfl)
theorem dX27_worth_17 : decode cX27_worth 17 = .ok (.iload_n 0, 1) := dk_26 (dk_at dksX27_worth_0 17 rfl rfl)
theorem dX27_worth_18 : decode cX27_worth 18 = .ok (.bipush 97, 2) := dk_16 97 (dk_at dksX27_worth_0 18 rfl rfl)
theorem dX27_worth_20 : decode cX27_worth 20 = .ok (.if_icmp .lt 17, 3) := dk_161 0 17 (dk_at dksX27_worth_0 20 rfl rfl)
theorem dX27_worth_23 : decode cX27_worth 23 = .ok (.iload_n 0, 1) := dk_26 (dk_at dksX27_worth_0 23 rfl rfl)
theorem dX27_worth_24 : decode cX27_worth 24 = .ok (.bipush 122, 2) := dk_16 122 (dk_at dksX27_worth_1 0 rfl rfl)
theorem dX27_worth_26 : decode cX27_worth 26 = .ok (.if_icmp .gt 11, 3) := dk_163 0 11 (dk_at dksX27_worth_1 2 rfl rfl)
theorem dX27_worth_29 : decode cX27_worth 29 = .ok (.iload_n 0, 1) := dk_26 (dk_at dksX27_worth_1 5 rfl rfl)
theorem dX27_worth_30 : decode cX27_worth 30 = .ok (.bipush 97, 2) := dk_16 97 (dk_at dksX27_worth_1 6 rfl rfl)
theorem dX27_worth_32 : decode cX27_worth 32 = .ok (.isub, 1) := dk_100 (dk_at dksX27_worth_1 8 rfl rfl)
theorem dX27_worth_33 : decode cX27_worth 33 = .ok (.bipush 26, 2) := dk_16 26 (dk_at dksX27_worth_1 9 rfl rfl)
theorem dX27_worth_35 : decode cX27_worth 35 = .ok (.iadd, 1) := dk_96 (dk_at dksX27_worth_1 11 rfl rfl)
theorem dX27_worth_36 : decode cX27_worth 36 = .ok (.ireturn, 1) := dk_172 (dk_at dksX27_worth_1 12 rfl rfl)
theorem dX27_worth_37 : decode cX27_worth 37 = .ok (.iload_n 0, 1) := dk_26 (dk_at dksX27_worth_1 13 rfl rfl)
theorem dX27_worth_38 : decode cX27_worth 38 = .ok (.bipush 48, 2) := dk_16 48 (dk_at dksX27_worth_1 14 rfl rfl)
theorem dX27_worth_40 : decode cX27_worth 40 = .ok (.if_icmp .lt 17, 3) := dk_161 0 17 (dk_at dksX27_worth_1 16 rfl rfl)
theorem dX27_worth_43 : decode cX27_worth 43 = .ok (.iload_n 0, 1) := dk_26 (dk_at dksX27_worth_1 19 rfl rfl)
theorem dX27_worth_44 : decode cX27_worth 44 = .ok (.bipush 57, 2) := dk_16 57 (dk_at dksX27_worth_1 20 rfl rfl)
theorem dX27_worth_46 : decode cX27_worth 46 = .ok (.if_icmp .gt 11, 3) := dk_163 0 11 (dk_at dksX27_worth_2 0 rfl rfl)
theorem dX27_worth_49 : decode cX27_worth 49 = .ok (.iload_n 0, 1) := dk_26 (dk_at dksX27_worth_2 3 rfl rfl)
theorem dX27_worth_50 : decode cX27_worth 50 = .ok (.bipush 48, 2) := dk_16 48 (dk_at dksX27_worth_2 4 rfl rfl)
theorem dX27_worth_52 : decode cX27_worth 52 = .ok (.isub, 1) := dk_100 (dk_at dksX27_worth_2 6 rfl rfl)
theorem dX27_worth_53 : decode cX27_worth 53 = .ok (.bipush 52, 2) := dk_16 52 (dk_at dksX27_worth_2 7 rfl rfl)
theorem dX27_worth_55 : decode cX27_worth 55 = .ok (.iadd, 1) := dk_96 (dk_at dksX27_worth_2 9 rfl rfl)
theorem dX27_worth_56 : decode cX27_worth 56 = .ok (.ireturn, 1) := dk_172 (dk_at dksX27_worth_2 10 rfl rfl)
theorem dX27_worth_57 : decode cX27_worth 57 = .ok (.iload_n 0, 1) := dk_26 (dk_at dksX27_worth_2 11 rfl rfl)
theorem dX27_worth_58 : decode cX27_worth 58 = .ok (.bipush 43, 2) := dk_16 43 (dk_at dksX27_worth_2 12 rfl rfl)
theorem dX27_worth_60 : decode cX27_worth 60 = .ok (.if_icmp .ne 8, 3) := dk_160 0 8 (dk_at dksX27_worth_2 14 rfl rfl)
theorem dX27_worth_63 : decode cX27_worth 63 = .ok (.bipush 62, 2) := dk_16 62 (dk_at dksX27_worth_2 17 rfl rfl)
theorem dX27_worth_65 : decode cX27_worth 65 = .ok (.goto 15, 3) := dk_167 0 15 (dk_at dksX27_worth_2 19 rfl rfl)
theorem dX27_worth_68 : decode cX27_worth 68 = .ok (.iload_n 0, 1) := dk_26 (dk_at dksX27_worth_2 22 rfl rfl)
theorem dX27_worth_69 : decode cX27_worth 69 = .ok (.bipush 47, 2) := dk_16 47 (dk_at dksX27_worth_3 0 rfl rfl)
theorem dX27_worth_71 : decode cX27_worth 71 = .ok (.if_icmp .ne 8, 3) := dk_160 0 8 (dk_at dksX27_worth_3 2 rfl rfl)
theorem dX27_worth_74 : decode cX27_worth 74 = .ok (.bipush 63, 2) := dk_16 63 (dk_at dksX27_worth_3 5 rfl rfl)
theorem dX27_worth_76 : decode cX27_worth 76 = .ok (.goto 4, 3) := dk_167 0 4 (dk_at dksX27_worth_3 7 rfl rfl)
theorem dX27_worth_79 : decode cX27_worth 79 = .ok (.iconst (-1), 1) := dk_2 (dk_at dksX27_worth_3 10 rfl rfl)
theorem dX27_worth_80 : decode cX27_worth 80 = .ok (.ireturn, 1) := dk_172 (dk_at dksX27_worth_3 11 rfl rfl)
abbrev cX27_show : ByteArray := prog_32_method_23_code
def yX27_show : MethodName := ⟨RX27, "show", "(ILLibraryDesk$Out;)I"⟩
def dkwX27_show_2 : List UInt8 := [180, 0, 115, 172]
abbrev dktX27_show_2 : List UInt8 := dkwX27_show_2 ++ []
def dkwX27_show_1 : List UInt8 := [180, 0, 15, 162, 0, 18, 44, 42, 29, 182, 0, 33, 182, 0, 47, 132, 3, 1, 167, 255, 236, 44]
abbrev dktX27_show_1 : List UInt8 := dkwX27_show_1 ++ dktX27_show_2
def dkwX27_show_0 : List UInt8 := [44, 182, 0, 107, 27, 16, 19, 160, 0, 11, 42, 44, 182, 0, 111, 167, 0, 28, 3, 62, 29, 42]
abbrev dktX27_show_0 : List UInt8 := dkwX27_show_0 ++ dktX27_show_1
theorem dksX27_show_0 : cX27_show.data.toList.drop 0 = dktX27_show_0 := by decide +kernel
theorem dksX27_show_1 : cX27_show.data.toList.drop 22 = dktX27_show_1 := dk_seg dksX27_show_0 22 rfl rfl
theorem dksX27_show_2 : cX27_show.data.toList.drop 44 = dktX27_show_2 := dk_seg dksX27_show_1 22 rfl rfl
theorem dX27_show_0 : decode cX27_show 0 = .ok (.aload_n 2, 1) := dk_44 (dk_at dksX27_show_0 0 rfl rfl)
theorem dX27_show_1 : decode cX27_show 1 = .ok (.invokevirtual 107, 3) := dk_182 0 107 (dk_at dksX27_show_0 1 rfl rfl)
theorem dX27_show_4 : decode cX27_show 4 = .ok (.iload_n 1, 1) := dk_27 (dk_at dksX27_show_0 4 rfl rfl)
theorem dX27_show_5 : decode cX27_show 5 = .ok (.bipush 19, 2) := dk_16 19 (dk_at dksX27_show_0 5 rfl rfl)
theorem dX27_show_7 : decode cX27_show 7 = .ok (.if_icmp .ne 11, 3) := dk_160 0 11 (dk_at dksX27_show_0 7 rfl rfl)
theorem dX27_show_10 : decode cX27_show 10 = .ok (.aload_n 0, 1) := dk_42 (dk_at dksX27_show_0 10 rfl rfl)
theorem dX27_show_11 : decode cX27_show 11 = .ok (.aload_n 2, 1) := dk_44 (dk_at dksX27_show_0 11 rfl rfl)
theorem dX27_show_12 : decode cX27_show 12 = .ok (.invokevirtual 111, 3) := dk_182 0 111 (dk_at dksX27_show_0 12 rfl rfl)
theorem dX27_show_15 : decode cX27_show 15 = .ok (.goto 28, 3) := dk_167 0 28 (dk_at dksX27_show_0 15 rfl rfl)
theorem dX27_show_18 : decode cX27_show 18 = .ok (.iconst 0, 1) := dk_3 (dk_at dksX27_show_0 18 rfl rfl)
theorem dX27_show_19 : decode cX27_show 19 = .ok (.istore_n 3, 1) := dk_62 (dk_at dksX27_show_0 19 rfl rfl)
theorem dX27_show_20 : decode cX27_show 20 = .ok (.iload_n 3, 1) := dk_29 (dk_at dksX27_show_0 20 rfl rfl)
theorem dX27_show_21 : decode cX27_show 21 = .ok (.aload_n 0, 1) := dk_42 (dk_at dksX27_show_0 21 rfl rfl)
theorem dX27_show_22 : decode cX27_show 22 = .ok (.getfield 15, 3) := dk_180 0 15 (dk_at dksX27_show_1 0 rfl rfl)
theorem dX27_show_25 : decode cX27_show 25 = .ok (.if_icmp .ge 18, 3) := dk_162 0 18 (dk_at dksX27_show_1 3 rfl rfl)
theorem dX27_show_28 : decode cX27_show 28 = .ok (.aload_n 2, 1) := dk_44 (dk_at dksX27_show_1 6 rfl rfl)
theorem dX27_show_29 : decode cX27_show 29 = .ok (.aload_n 0, 1) := dk_42 (dk_at dksX27_show_1 7 rfl rfl)
theorem dX27_show_30 : decode cX27_show 30 = .ok (.iload_n 3, 1) := dk_29 (dk_at dksX27_show_1 8 rfl rfl)
theorem dX27_show_31 : decode cX27_show 31 = .ok (.invokevirtual 33, 3) := dk_182 0 33 (dk_at dksX27_show_1 9 rfl rfl)
theorem dX27_show_34 : decode cX27_show 34 = .ok (.invokevirtual 47, 3) := dk_182 0 47 (dk_at dksX27_show_1 12 rfl rfl)
theorem dX27_show_37 : decode cX27_show 37 = .ok (.iinc 3 1, 3) := dk_132 3 1 (dk_at dksX27_show_1 15 rfl rfl)
theorem dX27_show_40 : decode cX27_show 40 = .ok (.goto (-20), 3) := dk_167 255 236 (dk_at dksX27_show_1 18 rfl rfl)
theorem dX27_show_43 : decode cX27_show 43 = .ok (.aload_n 2, 1) := dk_44 (dk_at dksX27_show_1 21 rfl rfl)
theorem dX27_show_44 : decode cX27_show 44 = .ok (.getfield 115, 3) := dk_180 0 115 (dk_at dksX27_show_2 0 rfl rfl)
theorem dX27_show_47 : decode cX27_show 47 = .ok (.ireturn, 1) := dk_172 (dk_at dksX27_show_2 3 rfl rfl)
abbrev cX27_encode : ByteArray := prog_32_method_19_code
def yX27_encode : MethodName := ⟨RX27, "encode", "(LLibraryDesk$Out;)V"⟩
def dkwX27_encode_6 : List UInt8 := [167, 255, 117, 177]
abbrev dktX27_encode_6 : List UInt8 := dkwX27_encode_6 ++ []
def dkwX27_encode_5 : List UInt8 := [5, 164, 0, 14, 21, 4, 16, 63, 126, 184, 0, 44, 167, 0, 5, 16, 61, 182, 0, 47, 132, 2, 3]
abbrev dktX27_encode_5 : List UInt8 := dkwX27_encode_5 ++ dktX27_encode_6
def dkwX27_encode_4 : List UInt8 := [164, 0, 17, 21, 4, 16, 6, 122, 16, 63, 126, 184, 0, 44, 167, 0, 5, 16, 61, 182, 0, 47, 43, 29]
abbrev dktX27_encode_4 : List UInt8 := dkwX27_encode_4 ++ dktX27_encode_5
def dkwX27_encode_3 : List UInt8 := [184, 0, 44, 182, 0, 47, 43, 21, 4, 16, 12, 122, 16, 63, 126, 184, 0, 44, 182, 0, 47, 43, 29, 4]
abbrev dktX27_encode_3 : List UInt8 := dkwX27_encode_3 ++ dktX27_encode_4
def dkwX27_encode_2 : List UInt8 := [164, 0, 13, 42, 28, 5, 96, 182, 0, 33, 167, 0, 4, 3, 128, 54, 4, 43, 21, 4, 16, 18, 122]
abbrev dktX27_encode_2 : List UInt8 := dkwX27_encode_2 ++ dktX27_encode_3
def dkwX27_encode_1 : List UInt8 := [120, 29, 4, 164, 0, 16, 42, 28, 4, 96, 182, 0, 33, 16, 8, 120, 167, 0, 4, 3, 128, 29, 5]
abbrev dktX27_encode_1 : List UInt8 := dkwX27_encode_1 ++ dktX27_encode_2
def dkwX27_encode_0 : List UInt8 := [3, 61, 28, 42, 180, 0, 15, 162, 0, 137, 42, 180, 0, 15, 28, 100, 62, 42, 28, 182, 0, 33, 16, 16]
abbrev dktX27_encode_0 : List UInt8 := dkwX27_encode_0 ++ dktX27_encode_1
theorem dksX27_encode_0 : cX27_encode.data.toList.drop 0 = dktX27_encode_0 := by decide +kernel
theorem dksX27_encode_1 : cX27_encode.data.toList.drop 24 = dktX27_encode_1 := dk_seg dksX27_encode_0 24 rfl rfl
theorem dksX27_encode_2 : cX27_encode.data.toList.drop 47 = dktX27_encode_2 := dk_seg dksX27_encode_1 23 rfl rfl
theorem dksX27_encode_3 : cX27_encode.data.toList.drop 70 = dktX27_encode_3 := dk_seg dksX27_encode_2 23 rfl rfl
theorem dksX27_encode_4 : cX27_encode.data.toList.drop 94 = dktX27_encode_4 := dk_seg dksX27_encode_3 24 rfl rfl
theorem dksX27_encode_5 : cX27_encode.data.toList.drop 118 = dktX27_encode_5 := dk_seg dksX27_encode_4 24 rfl rfl
theorem dksX27_encode_6 : cX27_encode.data.toList.drop 141 = dktX27_encode_6 := dk_seg dksX27_encode_5 23 rfl rfl
theorem dX27_encode_0 : decode cX27_encode 0 = .ok (.iconst 0, 1) := dk_3 (dk_at dksX27_encode_0 0 rfl rfl)
theorem dX27_encode_1 : decode cX27_encode 1 = .ok (.istore_n 2, 1) := dk_61 (dk_at dksX27_encode_0 1 rfl rfl)
theorem dX27_encode_2 : decode cX27_encode 2 = .ok (.iload_n 2, 1) := dk_28 (dk_at dksX27_encode_0 2 rfl rfl)
theorem dX27_encode_3 : decode cX27_encode 3 = .ok (.aload_n 0, 1) := dk_42 (dk_at dksX27_encode_0 3 rfl rfl)
theorem dX27_encode_4 : decode cX27_encode 4 = .ok (.getfield 15, 3) := dk_180 0 15 (dk_at dksX27_encode_0 4 rfl rfl)
theorem dX27_encode_7 : decode cX27_encode 7 = .ok (.if_icmp .ge 137, 3) := dk_162 0 137 (dk_at dksX27_encode_0 7 rfl rfl)
theorem dX27_encode_10 : decode cX27_encode 10 = .ok (.aload_n 0, 1) := dk_42 (dk_at dksX27_encode_0 10 rfl rfl)
theorem dX27_encode_11 : decode cX27_encode 11 = .ok (.getfield 15, 3) := dk_180 0 15 (dk_at dksX27_encode_0 11 rfl rfl)
theorem dX27_encode_14 : decode cX27_encode 14 = .ok (.iload_n 2, 1) := dk_28 (dk_at dksX27_encode_0 14 rfl rfl)
theorem dX27_encode_15 : decode cX27_encode 15 = .ok (.isub, 1) := dk_100 (dk_at dksX27_encode_0 15 rfl rfl)
theorem dX27_encode_16 : decode cX27_encode 16 = .ok (.istore_n 3, 1) := dk_62 (dk_at dksX27_encode_0 16 rfl rfl)
theorem dX27_encode_17 : decode cX27_encode 17 = .ok (.aload_n 0, 1) := dk_42 (dk_at dksX27_encode_0 17 rfl rfl)
theorem dX27_encode_18 : decode cX27_encode 18 = .ok (.iload_n 2, 1) := dk_28 (dk_at dksX27_encode_0 18 rfl rfl)
theorem dX27_encode_19 : decode cX27_encode 19 = .ok (.invokevirtual 33, 3) := dk_182 0 33 (dk_at dksX27_encode_0 19 rfl rfl)
theorem dX27_encode_22 : decode cX27_encode 22 = .ok (.bipush 16, 2) := dk_16 16 (dk_at dksX27_encode_0 22 rfl rfl)
theorem dX27_encode_24 : decode cX27_encode 24 = .ok (.ishl, 1) := dk_120 (dk_at dksX27_encode_1 0 rfl rfl)
theorem dX27_encode_25 : decode cX27_encode 25 = .ok (.iload_n 3, 1) := dk_29 (dk_at dksX27_encode_1 1 rfl rfl)
theorem dX27_encode_26 : decode cX27_encode 26 = .ok (.iconst 1, 1) := dk_4 (dk_at dksX27_encode_1 2 rfl rfl)
theorem dX27_encode_27 : decode cX27_encode 27 = .ok (.if_icmp .le 16, 3) := dk_164 0 16 (dk_at dksX27_encode_1 3 rfl rfl)
theorem dX27_encode_30 : decode cX27_encode 30 = .ok (.aload_n 0, 1) := dk_42 (dk_at dksX27_encode_1 6 rfl rfl)
theorem dX27_encode_31 : decode cX27_encode 31 = .ok (.iload_n 2, 1) := dk_28 (dk_at dksX27_encode_1 7 rfl rfl)
theorem dX27_encode_32 : decode cX27_encode 32 = .ok (.iconst 1, 1) := dk_4 (dk_at dksX27_encode_1 8 rfl rfl)
theorem dX27_encode_33 : decode cX27_encode 33 = .ok (.iadd, 1) := dk_96 (dk_at dksX27_encode_1 9 rfl rfl)
theorem dX27_encode_34 : decode cX27_encode 34 = .ok (.invokevirtual 33, 3) := dk_182 0 33 (dk_at dksX27_encode_1 10 rfl rfl)
theorem dX27_encode_37 : decode cX27_encode 37 = .ok (.bipush 8, 2) := dk_16 8 (dk_at dksX27_encode_1 13 rfl rfl)
theorem dX27_encode_39 : decode cX27_encode 39 = .ok (.ishl, 1) := dk_120 (dk_at dksX27_encode_1 15 rfl rfl)
theorem dX27_encode_40 : decode cX27_encode 40 = .ok (.goto 4, 3) := dk_167 0 4 (dk_at dksX27_encode_1 16 rfl rfl)
theorem dX27_encode_43 : decode cX27_encode 43 = .ok (.iconst 0, 1) := dk_3 (dk_at dksX27_encode_1 19 rfl rfl)
theorem dX27_encode_44 : decode cX27_encode 44 = .ok (.ior, 1) := dk_128 (dk_at dksX27_encode_1 20 rfl rfl)
theorem dX27_encode_45 : decode cX27_encode 45 = .ok (.iload_n 3, 1) := dk_29 (dk_at dksX27_encode_1 21 rfl rfl)
theorem dX27_encode_46 : decode cX27_encode 46 = .ok (.iconst 2, 1) := dk_5 (dk_at dksX27_encode_1 22 rfl rfl)
theorem dX27_encode_47 : decode cX27_encode 47 = .ok (.if_icmp .le 13, 3) := dk_164 0 13 (dk_at dksX27_encode_2 0 rfl rfl)
theorem dX27_encode_50 : decode cX27_encode 50 = .ok (.aload_n 0, 1) := dk_42 (dk_at dksX27_encode_2 3 rfl rfl)
theorem dX27_encode_51 : decode cX27_encode 51 = .ok (.iload_n 2, 1) := dk_28 (dk_at dksX27_encode_2 4 rfl rfl)
theorem dX27_encode_52 : decode cX27_encode 52 = .ok (.iconst 2, 1) := dk_5 (dk_at dksX27_encode_2 5 rfl rfl)
theorem dX27_encode_53 : decode cX27_encode 53 = .ok (.iadd, 1) := dk_96 (dk_at dksX27_encode_2 6 rfl rfl)
theorem dX27_encode_54 : decode cX27_encode 54 = .ok (.invokevirtual 33, 3) := dk_182 0 33 (dk_at dksX27_encode_2 7 rfl rfl)
theorem dX27_encode_57 : decode cX27_encode 57 = .ok (.goto 4, 3) := dk_167 0 4 (dk_at dksX27_encode_2 10 rfl rfl)
theorem dX27_encode_60 : decode cX27_encode 60 = .ok (.iconst 0, 1) := dk_3 (dk_at dksX27_encode_2 13 rfl rfl)
theorem dX27_encode_61 : decode cX27_encode 61 = .ok (.ior, 1) := dk_128 (dk_at dksX27_encode_2 14 rfl rfl)
theorem dX27_encode_62 : decode cX27_encode 62 = .ok (.istore 4, 2) := dk_54 4 (dk_at dksX27_encode_2 15 rfl rfl)
theorem dX27_encode_64 : decode cX27_encode 64 = .ok (.aload_n 1, 1) := dk_43 (dk_at dksX27_encode_2 17 rfl rfl)
theorem dX27_encode_65 : decode cX27_encode 65 = .ok (.iload 4, 2) := dk_21 4 (dk_at dksX27_encode_2 18 rfl rfl)
theorem dX27_encode_67 : decode cX27_encode 67 = .ok (.bipush 18, 2) := dk_16 18 (dk_at dksX27_encode_2 20 rfl rfl)
theorem dX27_encode_69 : decode cX27_encode 69 = .ok (.ishr, 1) := dk_122 (dk_at dksX27_encode_2 22 rfl rfl)
theorem dX27_encode_70 : decode cX27_encode 70 = .ok (.invokestatic 44, 3) := dk_184 0 44 (dk_at dksX27_encode_3 0 rfl rfl)
theorem dX27_encode_73 : decode cX27_encode 73 = .ok (.invokevirtual 47, 3) := dk_182 0 47 (dk_at dksX27_encode_3 3 rfl rfl)
theorem dX27_encode_76 : decode cX27_encode 76 = .ok (.aload_n 1, 1) := dk_43 (dk_at dksX27_encode_3 6 rfl rfl)
theorem dX27_encode_77 : decode cX27_encode 77 = .ok (.iload 4, 2) := dk_21 4 (dk_at dksX27_encode_3 7 rfl rfl)
theorem dX27_encode_79 : decode cX27_encode 79 = .ok (.bipush 12, 2) := dk_16 12 (dk_at dksX27_encode_3 9 rfl rfl)
theorem dX27_encode_81 : decode cX27_encode 81 = .ok (.ishr, 1) := dk_122 (dk_at dksX27_encode_3 11 rfl rfl)
theorem dX27_encode_82 : decode cX27_encode 82 = .ok (.bipush 63, 2) := dk_16 63 (dk_at dksX27_encode_3 12 rfl rfl)
theorem dX27_encode_84 : decode cX27_encode 84 = .ok (.iand, 1) := dk_126 (dk_at dksX27_encode_3 14 rfl rfl)
theorem dX27_encode_85 : decode cX27_encode 85 = .ok (.invokestatic 44, 3) := dk_184 0 44 (dk_at dksX27_encode_3 15 rfl rfl)
theorem dX27_encode_88 : decode cX27_encode 88 = .ok (.invokevirtual 47, 3) := dk_182 0 47 (dk_at dksX27_encode_3 18 rfl rfl)
theorem dX27_encode_91 : decode cX27_encode 91 = .ok (.aload_n 1, 1) := dk_43 (dk_at dksX27_encode_3 21 rfl rfl)
theorem dX27_encode_92 : decode cX27_encode 92 = .ok (.iload_n 3, 1) := dk_29 (dk_at dksX27_encode_3 22 rfl rfl)
theorem dX27_encode_93 : decode cX27_encode 93 = .ok (.iconst 1, 1) := dk_4 (dk_at dksX27_encode_3 23 rfl rfl)
theorem dX27_encode_94 : decode cX27_encode 94 = .ok (.if_icmp .le 17, 3) := dk_164 0 17 (dk_at dksX27_encode_4 0 rfl rfl)
theorem dX27_encode_97 : decode cX27_encode 97 = .ok (.iload 4, 2) := dk_21 4 (dk_at dksX27_encode_4 3 rfl rfl)
theorem dX27_encode_99 : decode cX27_encode 99 = .ok (.bipush 6, 2) := dk_16 6 (dk_at dksX27_encode_4 5 rfl rfl)
theorem dX27_encode_101 : decode cX27_encode 101 = .ok (.ishr, 1) := dk_122 (dk_at dksX27_encode_4 7 rfl rfl)
theorem dX27_encode_102 : decode cX27_encode 102 = .ok (.bipush 63, 2) := dk_16 63 (dk_at dksX27_encode_4 8 rfl rfl)
theorem dX27_encode_104 : decode cX27_encode 104 = .ok (.iand, 1) := dk_126 (dk_at dksX27_encode_4 10 rfl rfl)
theorem dX27_encode_105 : decode cX27_encode 105 = .ok (.invokestatic 44, 3) := dk_184 0 44 (dk_at dksX27_encode_4 11 rfl rfl)
theorem dX27_encode_108 : decode cX27_encode 108 = .ok (.goto 5, 3) := dk_167 0 5 (dk_at dksX27_encode_4 14 rfl rfl)
theorem dX27_encode_111 : decode cX27_encode 111 = .ok (.bipush 61, 2) := dk_16 61 (dk_at dksX27_encode_4 17 rfl rfl)
theorem dX27_encode_113 : decode cX27_encode 113 = .ok (.invokevirtual 47, 3) := dk_182 0 47 (dk_at dksX27_encode_4 19 rfl rfl)
theorem dX27_encode_116 : decode cX27_encode 116 = .ok (.aload_n 1, 1) := dk_43 (dk_at dksX27_encode_4 22 rfl rfl)
theorem dX27_encode_117 : decode cX27_encode 117 = .ok (.iload_n 3, 1) := dk_29 (dk_at dksX27_encode_4 23 rfl rfl)
theorem dX27_encode_118 : decode cX27_encode 118 = .ok (.iconst 2, 1) := dk_5 (dk_at dksX27_encode_5 0 rfl rfl)
theorem dX27_encode_119 : decode cX27_encode 119 = .ok (.if_icmp .le 14, 3) := dk_164 0 14 (dk_at dksX27_encode_5 1 rfl rfl)
theorem dX27_encode_122 : decode cX27_encode 122 = .ok (.iload 4, 2) := dk_21 4 (dk_at dksX27_encode_5 4 rfl rfl)
theorem dX27_encode_124 : decode cX27_encode 124 = .ok (.bipush 63, 2) := dk_16 63 (dk_at dksX27_encode_5 6 rfl rfl)
theorem dX27_encode_126 : decode cX27_encode 126 = .ok (.iand, 1) := dk_126 (dk_at dksX27_encode_5 8 rfl rfl)
theorem dX27_encode_127 : decode cX27_encode 127 = .ok (.invokestatic 44, 3) := dk_184 0 44 (dk_at dksX27_encode_5 9 rfl rfl)
theorem dX27_encode_130 : decode cX27_encode 130 = .ok (.goto 5, 3) := dk_167 0 5 (dk_at dksX27_encode_5 12 rfl rfl)
theorem dX27_encode_133 : decode cX27_encode 133 = .ok (.bipush 61, 2) := dk_16 61 (dk_at dksX27_encode_5 15 rfl rfl)
theorem dX27_encode_135 : decode cX27_encode 135 = .ok (.invokevirtual 47, 3) := dk_182 0 47 (dk_at dksX27_encode_5 17 rfl rfl)
theorem dX27_encode_138 : decode cX27_encode 138 = .ok (.iinc 2 3, 3) := dk_132 2 3 (dk_at dksX27_encode_5 20 rfl rfl)
theorem dX27_encode_141 : decode cX27_encode 141 = .ok (.goto (-139), 3) := dk_167 255 117 (dk_at dksX27_encode_6 0 rfl rfl)
theorem dX27_encode_144 : decode cX27_encode 144 = .ok (.return_, 1) := dk_177 (dk_at dksX27_encode_6 3 rfl rfl)
abbrev cX27_letter : ByteArray := prog_32_method_17_code
def yX27_letter : MethodName := ⟨RX27, "lette\x72", "(I)I"⟩
def dkwX27_letter_2 : List UInt8 := [16, 62, 160, 0, 8, 16, 43, 167, 0, 5, 16, 47, 172]
abbrev dktX27_letter_2 : List UInt8 := dkwX27_letter_2 ++ []
def dkwX27_letter_1 : List UInt8 := [16, 26, 100, 167, 0, 32, 26, 16, 62, 162, 0, 13, 16, 48, 26, 96, 16, 52, 100, 167, 0, 16, 26]
abbrev dktX27_letter_1 : List UInt8 := dkwX27_letter_1 ++ dktX27_letter_2
def dkwX27_letter_0 : List UInt8 := [26, 16, 26, 162, 0, 10, 16, 65, 26, 96, 167, 0, 48, 26, 16, 52, 162, 0, 13, 16, 97, 26, 96]
abbrev dktX27_letter_0 : List UInt8 := dkwX27_letter_0 ++ dktX27_letter_1
theorem dksX27_letter_0 : cX27_letter.data.toList.drop 0 = dktX27_letter_0 := by decide +kernel
theorem dksX27_letter_1 : cX27_letter.data.toList.drop 23 = dktX27_letter_1 := dk_seg dksX27_letter_0 23 rfl rfl
theorem dksX27_letter_2 : cX27_letter.data.toList.drop 46 = dktX27_letter_2 := dk_seg dksX27_letter_1 23 rfl rfl
theorem dX27_letter_0 : decode cX27_letter 0 = .ok (.iload_n 0, 1) := dk_26 (dk_at dksX27_letter_0 0 rfl rfl)
theorem dX27_letter_1 : decode cX27_letter 1 = .ok (.bipush 26, 2) := dk_16 26 (dk_at dksX27_letter_0 1 rfl rfl)
theorem dX27_letter_3 : decode cX27_letter 3 = .ok (.if_icmp .ge 10, 3) := dk_162 0 10 (dk_at dksX27_letter_0 3 rfl rfl)
theorem dX27_letter_6 : decode cX27_letter 6 = .ok (.bipush 65, 2) := dk_16 65 (dk_at dksX27_letter_0 6 rfl rfl)
theorem dX27_letter_8 : decode cX27_letter 8 = .ok (.iload_n 0, 1) := dk_26 (dk_at dksX27_letter_0 8 rfl rfl)
theorem dX27_letter_9 : decode cX27_letter 9 = .ok (.iadd, 1) := dk_96 (dk_at dksX27_letter_0 9 rfl rfl)
theorem dX27_letter_10 : decode cX27_letter 10 = .ok (.goto 48, 3) := dk_167 0 48 (dk_at dksX27_letter_0 10 rfl rfl)
theorem dX27_letter_13 : decode cX27_letter 13 = .ok (.iload_n 0, 1) := dk_26 (dk_at dksX27_letter_0 13 rfl rfl)
theorem dX27_letter_14 : decode cX27_letter 14 = .ok (.bipush 52, 2) := dk_16 52 (dk_at dksX27_letter_0 14 rfl rfl)
theorem dX27_letter_16 : decode cX27_letter 16 = .ok (.if_icmp .ge 13, 3) := dk_162 0 13 (dk_at dksX27_letter_0 16 rfl rfl)
theorem dX27_letter_19 : decode cX27_letter 19 = .ok (.bipush 97, 2) := dk_16 97 (dk_at dksX27_letter_0 19 rfl rfl)
theorem dX27_letter_21 : decode cX27_letter 21 = .ok (.iload_n 0, 1) := dk_26 (dk_at dksX27_letter_0 21 rfl rfl)
theorem dX27_letter_22 : decode cX27_letter 22 = .ok (.iadd, 1) := dk_96 (dk_at dksX27_letter_0 22 rfl rfl)
theorem dX27_letter_23 : decode cX27_letter 23 = .ok (.bipush 26, 2) := dk_16 26 (dk_at dksX27_letter_1 0 rfl rfl)
theorem dX27_letter_25 : decode cX27_letter 25 = .ok (.isub, 1) := dk_100 (dk_at dksX27_letter_1 2 rfl rfl)
theorem dX27_letter_26 : decode cX27_letter 26 = .ok (.goto 32, 3) := dk_167 0 32 (dk_at dksX27_letter_1 3 rfl rfl)
theorem dX27_letter_29 : decode cX27_letter 29 = .ok (.iload_n 0, 1) := dk_26 (dk_at dksX27_letter_1 6 rfl rfl)
theorem dX27_letter_30 : decode cX27_letter 30 = .ok (.bipush 62, 2) := dk_16 62 (dk_at dksX27_letter_1 7 rfl rfl)
theorem dX27_letter_32 : decode cX27_letter 32 = .ok (.if_icmp .ge 13, 3) := dk_162 0 13 (dk_at dksX27_letter_1 9 rfl rfl)
theorem dX27_letter_35 : decode cX27_letter 35 = .ok (.bipush 48, 2) := dk_16 48 (dk_at dksX27_letter_1 12 rfl rfl)
theorem dX27_letter_37 : decode cX27_letter 37 = .ok (.iload_n 0, 1) := dk_26 (dk_at dksX27_letter_1 14 rfl rfl)
theorem dX27_letter_38 : decode cX27_letter 38 = .ok (.iadd, 1) := dk_96 (dk_at dksX27_letter_1 15 rfl rfl)
theorem dX27_letter_39 : decode cX27_letter 39 = .ok (.bipush 52, 2) := dk_16 52 (dk_at dksX27_letter_1 16 rfl rfl)
theorem dX27_letter_41 : decode cX27_letter 41 = .ok (.isub, 1) := dk_100 (dk_at dksX27_letter_1 18 rfl rfl)
theorem dX27_letter_42 : decode cX27_letter 42 = .ok (.goto 16, 3) := dk_167 0 16 (dk_at dksX27_letter_1 19 rfl rfl)
theorem dX27_letter_45 : decode cX27_letter 45 = .ok (.iload_n 0, 1) := dk_26 (dk_at dksX27_letter_1 22 rfl rfl)
theorem dX27_letter_46 : decode cX27_letter 46 = .ok (.bipush 62, 2) := dk_16 62 (dk_at dksX27_letter_2 0 rfl rfl)
theorem dX27_letter_48 : decode cX27_letter 48 = .ok (.if_icmp .ne 8, 3) := dk_160 0 8 (dk_at dksX27_letter_2 2 rfl rfl)
theorem dX27_letter_51 : decode cX27_letter 51 = .ok (.bipush 43, 2) := dk_16 43 (dk_at dksX27_letter_2 5 rfl rfl)
theorem dX27_letter_53 : decode cX27_letter 53 = .ok (.goto 5, 3) := dk_167 0 5 (dk_at dksX27_letter_2 7 rfl rfl)
theorem dX27_letter_56 : decode cX27_letter 56 = .ok (.bipush 47, 2) := dk_16 47 (dk_at dksX27_letter_2 10 rfl rfl)
theorem dX27_letter_58 : decode cX27_letter 58 = .ok (.ireturn, 1) := dk_172 (dk_at dksX27_letter_2 12 rfl rfl)
theorem q543 : (Jvm.Cond.initialized "LibraryDesk$TextThing") ∈ lw_all := lw_g (lw_at lw_m1 36 rfl) rfl
theorem q587 : (Jvm.Cond.fieldLinkNest "LibraryDesk$TextThing" (115 : Nat) "LibraryDesk$Out" "many" "I" "LibraryDesk") ∈ lw_tbl := lw_at lw_m1 80 rfl
theorem q1623 : (Jvm.Cond.instantiable "LibraryDesk$TextThing" (4 : Nat)) ∈ lw_all := lw_g (lw_at lw_m5 156 rfl) rfl
theorem q1625 : (Jvm.Cond.instanceMethod ({ cls := "LibraryDesk$TextThing", name := "<init>", desc := "()V" } : Jvm.MethodName)) ∈ lw_all := lw_g (lw_at lw_m5 158 rfl) rfl
theorem q1626 : (Jvm.Cond.code ({ cls := "LibraryDesk$TextThing", name := "<init>", desc := "()V" } : Jvm.MethodName) prog_32_method_1_code (1 : Nat) (Option.none : Option Jvm.ClassFile.FieldType)) ∈ lw_all := lw_g (lw_at lw_m5 159 rfl) rfl
theorem q1627 : (Jvm.Cond.methodLinkNest "LibraryDesk$TextThing" (3 : Nat) ({ cls := "LibraryDesk$Thing", name := "<init>", desc := "(I)V" } : Jvm.MethodName) "LibraryDesk") ∈ lw_tbl := lw_at lw_m5 160 rfl
theorem q1628 : (Jvm.Cond.fieldLink "LibraryDesk$TextThing" (9 : Nat) "LibraryDesk$TextThing" "row" "[B") ∈ lw_all := lw_g (lw_at lw_m5 161 rfl) rfl
theorem q1630 : (Jvm.Cond.fieldLink "LibraryDesk$TextThing" (15 : Nat) "LibraryDesk$TextThing" "size" "I") ∈ lw_all := lw_g (lw_at lw_m5 163 rfl) rfl
theorem q1634 : (Jvm.Cond.laysFinal "LibraryDesk$TextThing" "LibraryDesk$TextThing" "row" "[B") ∈ lw_all := lw_g (lw_at lw_m5 167 rfl) rfl
theorem q1635 : (Jvm.Cond.soleField "LibraryDesk$TextThing" "row") ∈ lw_all := lw_g (lw_at lw_m5 168 rfl) rfl
theorem q1636 : (Jvm.Cond.lays "LibraryDesk$TextThing" "LibraryDesk$TextThing" "size" "I") ∈ lw_all := lw_g (lw_at lw_m5 169 rfl) rfl
theorem q1637 : (Jvm.Cond.soleField "LibraryDesk$TextThing" "size") ∈ lw_all := lw_g (lw_at lw_m5 170 rfl) rfl
theorem q1638 : (Jvm.Cond.laysFinal "LibraryDesk$TextThing" "LibraryDesk$Thing" "kind" "I") ∈ lw_all := lw_g (lw_at lw_m5 171 rfl) rfl
theorem q1639 : (Jvm.Cond.lays "LibraryDesk$TextThing" "LibraryDesk$Thing" "used" "Z") ∈ lw_all := lw_g (lw_at lw_m5 172 rfl) rfl
theorem q1640 : (Jvm.Cond.superclass "LibraryDesk$TextThing" "LibraryDesk$Thing") ∈ lw_all := lw_g (lw_at lw_m5 173 rfl) rfl
theorem q1917 : (Jvm.Cond.privateMethod ({ cls := "LibraryDesk$TextThing", name := "begin", desc := "()V" } : Jvm.MethodName)) ∈ lw_tbl := lw_at lw_m6 210 rfl
theorem q1918 : (Jvm.Cond.instanceMethod ({ cls := "LibraryDesk$TextThing", name := "begin", desc := "()V" } : Jvm.MethodName)) ∈ lw_all := lw_g (lw_at lw_m6 211 rfl) rfl
theorem q1919 : (Jvm.Cond.code ({ cls := "LibraryDesk$TextThing", name := "begin", desc := "()V" } : Jvm.MethodName) prog_32_method_2_code (1 : Nat) (Option.none : Option Jvm.ClassFile.FieldType)) ∈ lw_all := lw_g (lw_at lw_m6 212 rfl) rfl
theorem q3032 : (Jvm.Cond.privateMethod ({ cls := "LibraryDesk$TextThing", name := "compare", desc := "(LLibraryDesk$TextThing;)I" } : Jvm.MethodName)) ∈ lw_tbl := lw_at lw_m11 125 rfl
theorem q3033 : (Jvm.Cond.instanceMethod ({ cls := "LibraryDesk$TextThing", name := "compare", desc := "(LLibraryDesk$TextThing;)I" } : Jvm.MethodName)) ∈ lw_all := lw_g (lw_at lw_m11 126 rfl) rfl
theorem q3034 : (Jvm.Cond.code ({ cls := "LibraryDesk$TextThing", name := "compare", desc := "(LLibraryDesk$TextThing;)I" } : Jvm.MethodName) prog_32_method_8_code (3 : Nat) (Option.some Jvm.ClassFile.FieldType.int)) ∈ lw_all := lw_g (lw_at lw_m11 127 rfl) rfl
theorem q3035 : (Jvm.Cond.methodLink "LibraryDesk$TextThing" (33 : Nat) ({ cls := "LibraryDesk$TextThing", name := "get", desc := "(I)I" } : Jvm.MethodName)) ∈ lw_all := lw_g (lw_at lw_m11 128 rfl) rfl
theorem q3036 : (Jvm.Cond.privateMethod ({ cls := "LibraryDesk$TextThing", name := "get", desc := "(I)I" } : Jvm.MethodName)) ∈ lw_tbl := lw_at lw_m11 129 rfl
theorem q3037 : (Jvm.Cond.instanceMethod ({ cls := "LibraryDesk$TextThing", name := "get", desc := "(I)I" } : Jvm.MethodName)) ∈ lw_all := lw_g (lw_at lw_m11 130 rfl) rfl
theorem q3038 : (Jvm.Cond.code ({ cls := "LibraryDesk$TextThing", name := "get", desc := "(I)I" } : Jvm.MethodName) prog_32_method_3_code (2 : Nat) (Option.some Jvm.ClassFile.FieldType.int)) ∈ lw_all := lw_g (lw_at lw_m11 131 rfl) rfl
theorem q3040 : (Jvm.Cond.privateMethod ({ cls := "LibraryDesk$TextThing", name := "call", desc := "(III[BILLibraryDesk$Out;)I" } : Jvm.MethodName)) ∈ lw_tbl := lw_at lw_m11 133 rfl
theorem q3041 : (Jvm.Cond.instanceMethod ({ cls := "LibraryDesk$TextThing", name := "call", desc := "(III[BILLibraryDesk$Out;)I" } : Jvm.MethodName)) ∈ lw_all := lw_g (lw_at lw_m11 134 rfl) rfl
theorem q3042 : (Jvm.Cond.code ({ cls := "LibraryDesk$TextThing", name := "call", desc := "(III[BILLibraryDesk$Out;)I" } : Jvm.MethodName) prog_32_method_22_code (8 : Nat) (Option.some Jvm.ClassFile.FieldType.int)) ∈ lw_all := lw_g (lw_at lw_m11 135 rfl) rfl
theorem q3043 : (Jvm.Cond.methodLink "LibraryDesk$TextThing" (62 : Nat) ({ cls := "LibraryDesk$TextThing", name := "splice", desc := "(II[BI)I" } : Jvm.MethodName)) ∈ lw_all := lw_g (lw_at lw_m11 136 rfl) rfl
theorem q3044 : (Jvm.Cond.privateMethod ({ cls := "LibraryDesk$TextThing", name := "splice", desc := "(II[BI)I" } : Jvm.MethodName)) ∈ lw_tbl := lw_at lw_m11 137 rfl
theorem q3045 : (Jvm.Cond.instanceMethod ({ cls := "LibraryDesk$TextThing", name := "splice", desc := "(II[BI)I" } : Jvm.MethodName)) ∈ lw_all := lw_g (lw_at lw_m11 138 rfl) rfl
theorem q3046 : (Jvm.Cond.code ({ cls := "LibraryDesk$TextThing", name := "splice", desc := "(II[BI)I" } : Jvm.MethodName) prog_32_method_4_code (5 : Nat) (Option.some Jvm.ClassFile.FieldType.int)) ∈ lw_all := lw_g (lw_at lw_m11 139 rfl) rfl
theorem q3047 : (Jvm.Cond.methodLinkNest "LibraryDesk$TextThing" (19 : Nat) ({ cls := "LibraryDesk", name := "state", desc := "(Z)V" } : Jvm.MethodName) "LibraryDesk") ∈ lw_tbl := lw_at lw_m11 140 rfl
theorem q3048 : (Jvm.Cond.methodLink "LibraryDesk$TextThing" (23 : Nat) ({ cls := "java/lang/System", name := "arraycopy", desc := "(Ljava/lang/Object;ILjava/lang/Object;II)V" } : Jvm.MethodName)) ∈ lw_all := lw_g (lw_at lw_m11 141 rfl) rfl
theorem q3049 : (Jvm.Cond.methodLinkNest "LibraryDesk$TextThing" (66 : Nat) ({ cls := "LibraryDesk", name := "within", desc := "(Z)V" } : Jvm.MethodName) "LibraryDesk") ∈ lw_tbl := lw_at lw_m11 142 rfl
theorem q3050 : (Jvm.Cond.methodLink "LibraryDesk$TextThing" (69 : Nat) ({ cls := "LibraryDesk$TextThing", name := "reverse", desc := "()I" } : Jvm.MethodName)) ∈ lw_all := lw_g (lw_at lw_m11 143 rfl) rfl
theorem q3051 : (Jvm.Cond.privateMethod ({ cls := "LibraryDesk$TextThing", name := "reverse", desc := "()I" } : Jvm.MethodName)) ∈ lw_tbl := lw_at lw_m11 144 rfl
theorem q3052 : (Jvm.Cond.instanceMethod ({ cls := "LibraryDesk$TextThing", name := "reverse", desc := "()I" } : Jvm.MethodName)) ∈ lw_all := lw_g (lw_at lw_m11 145 rfl) rfl
theorem q3053 : (Jvm.Cond.code ({ cls := "LibraryDesk$TextThing", name := "reverse", desc := "()I" } : Jvm.MethodName) prog_32_method_11_code (3 : Nat) (Option.some Jvm.ClassFile.FieldType.int)) ∈ lw_all := lw_g (lw_at lw_m11 146 rfl) rfl
theorem q3054 : (Jvm.Cond.methodLink "LibraryDesk$TextThing" (73 : Nat) ({ cls := "LibraryDesk$TextThing", name := "find", desc := "(I[BI)I" } : Jvm.MethodName)) ∈ lw_all := lw_g (lw_at lw_m11 147 rfl) rfl
theorem q3055 : (Jvm.Cond.privateMethod ({ cls := "LibraryDesk$TextThing", name := "find", desc := "(I[BI)I" } : Jvm.MethodName)) ∈ lw_tbl := lw_at lw_m11 148 rfl
theorem q3056 : (Jvm.Cond.instanceMethod ({ cls := "LibraryDesk$TextThing", name := "find", desc := "(I[BI)I" } : Jvm.MethodName)) ∈ lw_all := lw_g (lw_at lw_m11 149 rfl) rfl
theorem q3057 : (Jvm.Cond.code ({ cls := "LibraryDesk$TextThing", name := "find", desc := "(I[BI)I" } : Jvm.MethodName) prog_32_method_6_code (5 : Nat) (Option.some Jvm.ClassFile.FieldType.int)) ∈ lw_all := lw_g (lw_at lw_m11 150 rfl) rfl
theorem q3058 : (Jvm.Cond.methodLink "LibraryDesk$TextThing" (29 : Nat) ({ cls := "LibraryDesk$TextThing", name := "stands", desc := "(I[BI)Z" } : Jvm.MethodName)) ∈ lw_all := lw_g (lw_at lw_m11 151 rfl) rfl
theorem q3059 : (Jvm.Cond.privateMethod ({ cls := "LibraryDesk$TextThing", name := "stands", desc := "(I[BI)Z" } : Jvm.MethodName)) ∈ lw_tbl := lw_at lw_m11 152 rfl
theorem q3060 : (Jvm.Cond.instanceMethod ({ cls := "LibraryDesk$TextThing", name := "stands", desc := "(I[BI)Z" } : Jvm.MethodName)) ∈ lw_all := lw_g (lw_at lw_m11 153 rfl) rfl
theorem q3061 : (Jvm.Cond.code ({ cls := "LibraryDesk$TextThing", name := "stands", desc := "(I[BI)Z" } : Jvm.MethodName) prog_32_method_5_code (5 : Nat) (Option.some Jvm.ClassFile.FieldType.boolean)) ∈ lw_all := lw_g (lw_at lw_m11 154 rfl) rfl
theorem q3062 : (Jvm.Cond.methodLink "LibraryDesk$TextThing" (77 : Nat) ({ cls := "LibraryDesk$TextThing", name := "findLast", desc := "(I[BI)I" } : Jvm.MethodName)) ∈ lw_all := lw_g (lw_at lw_m11 155 rfl) rfl
theorem q3063 : (Jvm.Cond.privateMethod ({ cls := "LibraryDesk$TextThing", name := "findLast", desc := "(I[BI)I" } : Jvm.MethodName)) ∈ lw_tbl := lw_at lw_m11 156 rfl
theorem q3064 : (Jvm.Cond.instanceMethod ({ cls := "LibraryDesk$TextThing", name := "findLast", desc := "(I[BI)I" } : Jvm.MethodName)) ∈ lw_all := lw_g (lw_at lw_m11 157 rfl) rfl
theorem q3065 : (Jvm.Cond.code ({ cls := "LibraryDesk$TextThing", name := "findLast", desc := "(I[BI)I" } : Jvm.MethodName) prog_32_method_7_code (5 : Nat) (Option.some Jvm.ClassFile.FieldType.int)) ∈ lw_all := lw_g (lw_at lw_m11 158 rfl) rfl
theorem q3066 : (Jvm.Cond.methodLink "LibraryDesk$TextThing" (80 : Nat) ({ cls := "LibraryDesk$TextThing", name := "hash", desc := "()I" } : Jvm.MethodName)) ∈ lw_all := lw_g (lw_at lw_m11 159 rfl) rfl
theorem q3067 : (Jvm.Cond.privateMethod ({ cls := "LibraryDesk$TextThing", name := "hash", desc := "()I" } : Jvm.MethodName)) ∈ lw_tbl := lw_at lw_m11 160 rfl
theorem q3068 : (Jvm.Cond.instanceMethod ({ cls := "LibraryDesk$TextThing", name := "hash", desc := "()I" } : Jvm.MethodName)) ∈ lw_all := lw_g (lw_at lw_m11 161 rfl) rfl
theorem q3069 : (Jvm.Cond.code ({ cls := "LibraryDesk$TextThing", name := "hash", desc := "()I" } : Jvm.MethodName) prog_32_method_9_code (3 : Nat) (Option.some Jvm.ClassFile.FieldType.int)) ∈ lw_all := lw_g (lw_at lw_m11 162 rfl) rfl
theorem q3070 : (Jvm.Cond.methodLink "LibraryDesk$TextThing" (83 : Nat) ({ cls := "LibraryDesk$TextThing", name := "cut", desc := "(I)I" } : Jvm.MethodName)) ∈ lw_all := lw_g (lw_at lw_m11 163 rfl) rfl
theorem q3071 : (Jvm.Cond.privateMethod ({ cls := "LibraryDesk$TextThing", name := "cut", desc := "(I)I" } : Jvm.MethodName)) ∈ lw_tbl := lw_at lw_m11 164 rfl
theorem q3072 : (Jvm.Cond.instanceMethod ({ cls := "LibraryDesk$TextThing", name := "cut", desc := "(I)I" } : Jvm.MethodName)) ∈ lw_all := lw_g (lw_at lw_m11 165 rfl) rfl
theorem q3073 : (Jvm.Cond.code ({ cls := "LibraryDesk$TextThing", name := "cut", desc := "(I)I" } : Jvm.MethodName) prog_32_method_10_code (3 : Nat) (Option.some Jvm.ClassFile.FieldType.int)) ∈ lw_all := lw_g (lw_at lw_m11 166 rfl) rfl
theorem q3074 : (Jvm.Cond.methodLink "LibraryDesk$TextThing" (86 : Nat) ({ cls := "LibraryDesk$TextThing", name := "letters", desc := "(Z)I" } : Jvm.MethodName)) ∈ lw_all := lw_g (lw_at lw_m11 167 rfl) rfl
theorem q3075 : (Jvm.Cond.privateMethod ({ cls := "LibraryDesk$TextThing", name := "letters", desc := "(Z)I" } : Jvm.MethodName)) ∈ lw_tbl := lw_at lw_m11 168 rfl
theorem q3076 : (Jvm.Cond.instanceMethod ({ cls := "LibraryDesk$TextThing", name := "letters", desc := "(Z)I" } : Jvm.MethodName)) ∈ lw_all := lw_g (lw_at lw_m11 169 rfl) rfl
theorem q3077 : (Jvm.Cond.code ({ cls := "LibraryDesk$TextThing", name := "letters", desc := "(Z)I" } : Jvm.MethodName) prog_32_method_12_code (4 : Nat) (Option.some Jvm.ClassFile.FieldType.int)) ∈ lw_all := lw_g (lw_at lw_m11 170 rfl) rfl
theorem q3078 : (Jvm.Cond.methodLink "LibraryDesk$TextThing" (90 : Nat) ({ cls := "LibraryDesk$TextThing", name := "trim", desc := "()I" } : Jvm.MethodName)) ∈ lw_all := lw_g (lw_at lw_m11 171 rfl) rfl
theorem q3079 : (Jvm.Cond.privateMethod ({ cls := "LibraryDesk$TextThing", name := "trim", desc := "()I" } : Jvm.MethodName)) ∈ lw_tbl := lw_at lw_m11 172 rfl
theorem q3080 : (Jvm.Cond.instanceMethod ({ cls := "LibraryDesk$TextThing", name := "trim", desc := "()I" } : Jvm.MethodName)) ∈ lw_all := lw_g (lw_at lw_m11 173 rfl) rfl
theorem q3081 : (Jvm.Cond.code ({ cls := "LibraryDesk$TextThing", name := "trim", desc := "()I" } : Jvm.MethodName) prog_32_method_14_code (3 : Nat) (Option.some Jvm.ClassFile.FieldType.int)) ∈ lw_all := lw_g (lw_at lw_m11 174 rfl) rfl
theorem q3082 : (Jvm.Cond.methodLink "LibraryDesk$TextThing" (37 : Nat) ({ cls := "LibraryDesk$TextThing", name := "isBlank", desc := "(I)Z" } : Jvm.MethodName)) ∈ lw_all := lw_g (lw_at lw_m11 175 rfl) rfl
theorem q3083 : (Jvm.Cond.static ({ cls := "LibraryDesk$TextThing", name := "isBlank", desc := "(I)Z" } : Jvm.MethodName)) ∈ lw_all := lw_g (lw_at lw_m11 176 rfl) rfl
theorem q3084 : (Jvm.Cond.code ({ cls := "LibraryDesk$TextThing", name := "isBlank", desc := "(I)Z" } : Jvm.MethodName) prog_32_method_13_code (1 : Nat) (Option.some Jvm.ClassFile.FieldType.boolean)) ∈ lw_all := lw_g (lw_at lw_m11 177 rfl) rfl
theorem q3085 : (Jvm.Cond.methodLink "LibraryDesk$TextThing" (93 : Nat) ({ cls := "LibraryDesk$TextThing", name := "repeat", desc := "(I)I" } : Jvm.MethodName)) ∈ lw_all := lw_g (lw_at lw_m11 178 rfl) rfl
theorem q3086 : (Jvm.Cond.privateMethod ({ cls := "LibraryDesk$TextThing", name := "repeat", desc := "(I)I" } : Jvm.MethodName)) ∈ lw_tbl := lw_at lw_m11 179 rfl
theorem q3087 : (Jvm.Cond.instanceMethod ({ cls := "LibraryDesk$TextThing", name := "repeat", desc := "(I)I" } : Jvm.MethodName)) ∈ lw_all := lw_g (lw_at lw_m11 180 rfl) rfl
theorem q3088 : (Jvm.Cond.code ({ cls := "LibraryDesk$TextThing", name := "repeat", desc := "(I)I" } : Jvm.MethodName) prog_32_method_15_code (4 : Nat) (Option.some Jvm.ClassFile.FieldType.int)) ∈ lw_all := lw_g (lw_at lw_m11 181 rfl) rfl
theorem q3089 : (Jvm.Cond.constantLong "LibraryDesk$TextThing" (41 : Nat) (4000 : Int64)) ∈ lw_all := lw_g (lw_at lw_m11 182 rfl) rfl
theorem q3090 : (Jvm.Cond.methodLink "LibraryDesk$TextThing" (96 : Nat) ({ cls := "LibraryDesk$TextThing", name := "crc", desc := "()I" } : Jvm.MethodName)) ∈ lw_all := lw_g (lw_at lw_m11 183 rfl) rfl
theorem q3091 : (Jvm.Cond.privateMethod ({ cls := "LibraryDesk$TextThing", name := "crc", desc := "()I" } : Jvm.MethodName)) ∈ lw_tbl := lw_at lw_m11 184 rfl
theorem q3092 : (Jvm.Cond.instanceMethod ({ cls := "LibraryDesk$TextThing", name := "crc", desc := "()I" } : Jvm.MethodName)) ∈ lw_all := lw_g (lw_at lw_m11 185 rfl) rfl
theorem q3093 : (Jvm.Cond.code ({ cls := "LibraryDesk$TextThing", name := "crc", desc := "()I" } : Jvm.MethodName) prog_32_method_16_code (4 : Nat) (Option.some Jvm.ClassFile.FieldType.int)) ∈ lw_all := lw_g (lw_at lw_m11 186 rfl) rfl
theorem q3094 : (Jvm.Cond.constant "LibraryDesk$TextThing" (43 : Nat) (-306674912 : Int32)) ∈ lw_all := lw_g (lw_at lw_m11 187 rfl) rfl
theorem q3095 : (Jvm.Cond.methodLink "LibraryDesk$TextThing" (99 : Nat) ({ cls := "LibraryDesk$TextThing", name := "decode", desc := "([BI)I" } : Jvm.MethodName)) ∈ lw_all := lw_g (lw_at lw_m11 188 rfl) rfl
theorem q3096 : (Jvm.Cond.privateMethod ({ cls := "LibraryDesk$TextThing", name := "decode", desc := "([BI)I" } : Jvm.MethodName)) ∈ lw_tbl := lw_at lw_m11 189 rfl
theorem q3097 : (Jvm.Cond.instanceMethod ({ cls := "LibraryDesk$TextThing", name := "decode", desc := "([BI)I" } : Jvm.MethodName)) ∈ lw_all := lw_g (lw_at lw_m11 190 rfl) rfl
theorem q3098 : (Jvm.Cond.code ({ cls := "LibraryDesk$TextThing", name := "decode", desc := "([BI)I" } : Jvm.MethodName) prog_32_method_21_code (7 : Nat) (Option.some Jvm.ClassFile.FieldType.int)) ∈ lw_all := lw_g (lw_at lw_m11 191 rfl) rfl
theorem q3099 : (Jvm.Cond.classLink "LibraryDesk$TextThing" (55 : Nat) "LibraryDesk$Broken") ∈ lw_all := lw_g (lw_at lw_m11 192 rfl) rfl
theorem q3108 : (Jvm.Cond.methodLinkNest "LibraryDesk$TextThing" (57 : Nat) ({ cls := "LibraryDesk$Broken", name := "<init>", desc := "(I)V" } : Jvm.MethodName) "LibraryDesk") ∈ lw_tbl := lw_at lw_m11 201 rfl
theorem q3126 : (Jvm.Cond.methodLink "LibraryDesk$TextThing" (58 : Nat) ({ cls := "LibraryDesk$TextThing", name := "fou\x72", desc := "([BIZ)I" } : Jvm.MethodName)) ∈ lw_all := lw_g (lw_at lw_m11 219 rfl) rfl
theorem q3127 : (Jvm.Cond.static ({ cls := "LibraryDesk$TextThing", name := "fou\x72", desc := "([BIZ)I" } : Jvm.MethodName)) ∈ lw_all := lw_g (lw_at lw_m11 220 rfl) rfl
theorem q3128 : (Jvm.Cond.code ({ cls := "LibraryDesk$TextThing", name := "fou\x72", desc := "([BIZ)I" } : Jvm.MethodName) prog_32_method_20_code (5 : Nat) (Option.some Jvm.ClassFile.FieldType.int)) ∈ lw_all := lw_g (lw_at lw_m11 221 rfl) rfl
theorem q3129 : (Jvm.Cond.methodLink "LibraryDesk$TextThing" (52 : Nat) ({ cls := "LibraryDesk$TextThing", name := "worth", desc := "(I)I" } : Jvm.MethodName)) ∈ lw_all := lw_g (lw_at lw_m11 222 rfl) rfl
theorem q3130 : (Jvm.Cond.static ({ cls := "LibraryDesk$TextThing", name := "worth", desc := "(I)I" } : Jvm.MethodName)) ∈ lw_all := lw_g (lw_at lw_m11 223 rfl) rfl
theorem q3131 : (Jvm.Cond.code ({ cls := "LibraryDesk$TextThing", name := "worth", desc := "(I)I" } : Jvm.MethodName) prog_32_method_18_code (1 : Nat) (Option.some Jvm.ClassFile.FieldType.int)) ∈ lw_all := lw_g (lw_at lw_m11 224 rfl) rfl
theorem q3132 : (Jvm.Cond.methodLink "LibraryDesk$TextThing" (103 : Nat) ({ cls := "LibraryDesk$TextThing", name := "show", desc := "(ILLibraryDesk$Out;)I" } : Jvm.MethodName)) ∈ lw_all := lw_g (lw_at lw_m11 225 rfl) rfl
theorem q3133 : (Jvm.Cond.privateMethod ({ cls := "LibraryDesk$TextThing", name := "show", desc := "(ILLibraryDesk$Out;)I" } : Jvm.MethodName)) ∈ lw_tbl := lw_at lw_m11 226 rfl
theorem q3134 : (Jvm.Cond.instanceMethod ({ cls := "LibraryDesk$TextThing", name := "show", desc := "(ILLibraryDesk$Out;)I" } : Jvm.MethodName)) ∈ lw_all := lw_g (lw_at lw_m11 227 rfl) rfl
theorem q3135 : (Jvm.Cond.code ({ cls := "LibraryDesk$TextThing", name := "show", desc := "(ILLibraryDesk$Out;)I" } : Jvm.MethodName) prog_32_method_23_code (4 : Nat) (Option.some Jvm.ClassFile.FieldType.int)) ∈ lw_all := lw_g (lw_at lw_m11 228 rfl) rfl
theorem q3136 : (Jvm.Cond.methodLinkNest "LibraryDesk$TextThing" (107 : Nat) ({ cls := "LibraryDesk$Out", name := "clea\x72", desc := "()V" } : Jvm.MethodName) "LibraryDesk") ∈ lw_tbl := lw_at lw_m11 229 rfl
theorem q3140 : (Jvm.Cond.methodLink "LibraryDesk$TextThing" (111 : Nat) ({ cls := "LibraryDesk$TextThing", name := "encode", desc := "(LLibraryDesk$Out;)V" } : Jvm.MethodName)) ∈ lw_all := lw_g (lw_at lw_m11 233 rfl) rfl
theorem q3141 : (Jvm.Cond.privateMethod ({ cls := "LibraryDesk$TextThing", name := "encode", desc := "(LLibraryDesk$Out;)V" } : Jvm.MethodName)) ∈ lw_tbl := lw_at lw_m11 234 rfl
theorem q3142 : (Jvm.Cond.instanceMethod ({ cls := "LibraryDesk$TextThing", name := "encode", desc := "(LLibraryDesk$Out;)V" } : Jvm.MethodName)) ∈ lw_all := lw_g (lw_at lw_m11 235 rfl) rfl
theorem q3143 : (Jvm.Cond.code ({ cls := "LibraryDesk$TextThing", name := "encode", desc := "(LLibraryDesk$Out;)V" } : Jvm.MethodName) prog_32_method_19_code (5 : Nat) (Option.none : Option Jvm.ClassFile.FieldType)) ∈ lw_all := lw_g (lw_at lw_m11 236 rfl) rfl
theorem q3144 : (Jvm.Cond.methodLink "LibraryDesk$TextThing" (44 : Nat) ({ cls := "LibraryDesk$TextThing", name := "lette\x72", desc := "(I)I" } : Jvm.MethodName)) ∈ lw_all := lw_g (lw_at lw_m11 237 rfl) rfl
theorem q3145 : (Jvm.Cond.static ({ cls := "LibraryDesk$TextThing", name := "lette\x72", desc := "(I)I" } : Jvm.MethodName)) ∈ lw_all := lw_g (lw_at lw_m11 238 rfl) rfl
theorem q3146 : (Jvm.Cond.code ({ cls := "LibraryDesk$TextThing", name := "lette\x72", desc := "(I)I" } : Jvm.MethodName) prog_32_method_17_code (1 : Nat) (Option.some Jvm.ClassFile.FieldType.int)) ∈ lw_all := lw_g (lw_at lw_m11 239 rfl) rfl
theorem q3147 : (Jvm.Cond.methodLinkNest "LibraryDesk$TextThing" (47 : Nat) ({ cls := "LibraryDesk$Out", name := "add", desc := "(I)V" } : Jvm.MethodName) "LibraryDesk") ∈ lw_tbl := lw_at lw_m12 0 rfl
theorem q6093 : (Jvm.Cond.selects "LibraryDesk$TextThing" ({ cls := "LibraryDesk$Thing", name := "kind", desc := "()I" } : Jvm.MethodName) ({ cls := "LibraryDesk$Thing", name := "kind", desc := "()I" } : Jvm.MethodName)) ∈ lw_all := lw_g (lw_at lw_m24 66 rfl) rfl
theorem q6135 : (Jvm.Cond.castable "LibraryDesk$TextThing" "java/lang/Object") ∈ lw_tbl := lw_at lw_m24 108 rfl
theorem q6160 : (Jvm.Cond.castable "LibraryDesk$TextThing" "LibraryDesk$Thing") ∈ lw_tbl := lw_at lw_m24 133 rfl
theorem in_X27 : ∀ w ∈ wsX270, w ∈ lw_all := lw_in wsX270 [1638, 1639, 1634, 1636] (by decide +kernel) (by decide +kernel)

/-! LibraryDesk$PatternThing -/
set_option maxRecDepth 100000
def RX28 : String := "LibraryDesk$PatternThing"
def TX28 : u_T := fun k => match k with
  | 0 => ("LibraryDesk$Thing", "kind", "I", true)
  | 1 => ("LibraryDesk$Thing", "used", "Z", false)
  | 2 => ("LibraryDesk$PatternThing", "op", "[I", true)
  | 3 => ("LibraryDesk$PatternThing", "a", "[I", true)
  | 4 => ("LibraryDesk$PatternThing", "b", "[I", true)
  | 5 => ("LibraryDesk$PatternThing", "loopOf", "[I", true)
  | 6 => ("LibraryDesk$PatternThing", "oute\x72", "[I", true)
  | 7 => ("LibraryDesk$PatternThing", "loops", "I", false)
  | 8 => ("LibraryDesk$PatternThing", "loop", "I", false)
  | 9 => ("LibraryDesk$PatternThing", "many", "I", false)
  | 10 => ("LibraryDesk$PatternThing", "sets", "[J", true)
  | 11 => ("LibraryDesk$PatternThing", "setMany", "I", false)
  | _ => ("LibraryDesk$PatternThing", "groups", "I", false)
def tyX28 : Nat → FieldType := fun k => match k with
  | 0 => .int
  | 1 => .boolean
  | 2 => .array .int
  | 3 => .array .int
  | 4 => .array .int
  | 5 => .array .int
  | 6 => .array .int
  | 7 => .int
  | 8 => .int
  | 9 => .int
  | 10 => .array .long
  | 11 => .int
  | _ => .int
abbrev wsX280 : List Cond := u_ws RX28 TX28 13
set_option maxRecDepth 100000 in
theorem nmX28 : ∀ a, a < 13 → ∀ b, b < 13 → a ≠ b → (TX28 a).2.1 ≠ (TX28 b).2.1 := by decide +kernel
set_option maxRecDepth 100000 in
theorem tyX28_ok : ∀ k, k < 13 → parseFieldDescriptor (TX28 k).2.2.1 = some (tyX28 k) := by decide +kernel
abbrev cX28_init : ByteArray := prog_22_method_1_code
def yX28_init : MethodName := ⟨RX28, "<init>", "()V"⟩
def dkwX28_init_2 : List UInt8 := [181, 0, 24, 42, 17, 6, 64, 188, 11, 181, 0, 27, 177]
abbrev dktX28_init_2 : List UInt8 := dkwX28_init_2 ++ []
def dkwX28_init_1 : List UInt8 := [42, 17, 5, 20, 188, 10, 181, 0, 18, 42, 17, 5, 20, 188, 10, 181, 0, 21, 42, 17, 1, 144, 188, 10]
abbrev dktX28_init_1 : List UInt8 := dkwX28_init_1 ++ dktX28_init_2
def dkwX28_init_0 : List UInt8 := [42, 16, 8, 183, 0, 3, 42, 17, 5, 20, 188, 10, 181, 0, 11, 42, 17, 5, 20, 188, 10, 181, 0, 15]
abbrev dktX28_init_0 : List UInt8 := dkwX28_init_0 ++ dktX28_init_1
theorem dksX28_init_0 : cX28_init.data.toList.drop 0 = dktX28_init_0 := by decide +kernel
theorem dksX28_init_1 : cX28_init.data.toList.drop 24 = dktX28_init_1 := dk_seg dksX28_init_0 24 rfl rfl
theorem dksX28_init_2 : cX28_init.data.toList.drop 48 = dktX28_init_2 := dk_seg dksX28_init_1 24 rfl rfl
theorem dX28_init_0 : decode cX28_init 0 = .ok (.aload_n 0, 1) := dk_42 (dk_at dksX28_init_0 0 rfl rfl)
theorem dX28_init_1 : decode cX28_init 1 = .ok (.bipush 8, 2) := dk_16 8 (dk_at dksX28_init_0 1 rfl rfl)
theorem dX28_init_3 : decode cX28_init 3 = .ok (.invokespecial 3, 3) := dk_183 0 3 (dk_at dksX28_init_0 3 rfl rfl)
theorem dX28_init_6 : decode cX28_init 6 = .ok (.aload_n 0, 1) := dk_42 (dk_at dksX28_init_0 6 rfl rfl)
theorem dX28_init_7 : decode cX28_init 7 = .ok (.sipush 1300, 3) := dk_17 5 20 (dk_at dksX28_init_0 7 rfl rfl)
theorem dX28_init_10 : decode cX28_init 10 = .ok (.newarray .int, 2) := dk_188_10 (dk_at dksX28_init_0 10 rfl rfl)
theorem dX28_init_12 : decode cX28_init 12 = .ok (.putfield 11, 3) := dk_181 0 11 (dk_at dksX28_init_0 12 rfl rfl)
theorem dX28_init_15 : decode cX28_init 15 = .ok (.aload_n 0, 1) := dk_42 (dk_at dksX28_init_0 15 rfl rfl)
theorem dX28_init_16 : decode cX28_init 16 = .ok (.sipush 1300, 3) := dk_17 5 20 (dk_at dksX28_init_0 16 rfl rfl)
theorem dX28_init_19 : decode cX28_init 19 = .ok (.newarray .int, 2) := dk_188_10 (dk_at dksX28_init_0 19 rfl rfl)
theorem dX28_init_21 : decode cX28_init 21 = .ok (.putfield 15, 3) := dk_181 0 15 (dk_at dksX28_init_0 21 rfl rfl)
theorem dX28_init_24 : decode cX28_init 24 = .ok (.aload_n 0, 1) := dk_42 (dk_at dksX28_init_1 0 rfl rfl)
theorem dX28_init_25 : decode cX28_init 25 = .ok (.sipush 1300, 3) := dk_17 5 20 (dk_at dksX28_init_1 1 rfl rfl)
theorem dX28_init_28 : decode cX28_init 28 = .ok (.newarray .int, 2) := dk_188_10 (dk_at dksX28_init_1 4 rfl rfl)
theorem dX28_init_30 : decode cX28_init 30 = .ok (.putfield 18, 3) := dk_181 0 18 (dk_at dksX28_init_1 6 rfl rfl)
theorem dX28_init_33 : decode cX28_init 33 = .ok (.aload_n 0, 1) := dk_42 (dk_at dksX28_init_1 9 rfl rfl)
theorem dX28_init_34 : decode cX28_init 34 = .ok (.sipush 1300, 3) := dk_17 5 20 (dk_at dksX28_init_1 10 rfl rfl)
theorem dX28_init_37 : decode cX28_init 37 = .ok (.newarray .int, 2) := dk_188_10 (dk_at dksX28_init_1 13 rfl rfl)
theorem dX28_init_39 : decode cX28_init 39 = .ok (.putfield 21, 3) := dk_181 0 21 (dk_at dksX28_init_1 15 rfl rfl)
theorem dX28_init_42 : decode cX28_init 42 = .ok (.aload_n 0, 1) := dk_42 (dk_at dksX28_init_1 18 rfl rfl)
theorem dX28_init_43 : decode cX28_init 43 = .ok (.sipush 400, 3) := dk_17 1 144 (dk_at dksX28_init_1 19 rfl rfl)
theorem dX28_init_46 : decode cX28_init 46 = .ok (.newarray .int, 2) := dk_188_10 (dk_at dksX28_init_1 22 rfl rfl)
theorem dX28_init_48 : decode cX28_init 48 = .ok (.putfield 24, 3) := dk_181 0 24 (dk_at dksX28_init_2 0 rfl rfl)
theorem dX28_init_51 : decode cX28_init 51 = .ok (.aload_n 0, 1) := dk_42 (dk_at dksX28_init_2 3 rfl rfl)
theorem dX28_init_52 : decode cX28_init 52 = .ok (.sipush 1600, 3) := dk_17 6 64 (dk_at dksX28_init_2 4 rfl rfl)
theorem dX28_init_55 : decode cX28_init 55 = .ok (.newarray .long, 2) := dk_188_11 (dk_at dksX28_init_2 7 rfl rfl)
theorem dX28_init_57 : decode cX28_init 57 = .ok (.putfield 27, 3) := dk_181 0 27 (dk_at dksX28_init_2 9 rfl rfl)
theorem dX28_init_60 : decode cX28_init 60 = .ok (.return_, 1) := dk_177 (dk_at dksX28_init_2 12 rfl rfl)
abbrev cX28_begin : ByteArray := prog_22_method_2_code
def yX28_begin : MethodName := ⟨RX28, "begin", "()V"⟩
def dkwX28_begin_1 : List UInt8 := [181, 0, 44, 177]
abbrev dktX28_begin_1 : List UInt8 := dkwX28_begin_1 ++ []
def dkwX28_begin_0 : List UInt8 := [42, 3, 181, 0, 31, 42, 3, 181, 0, 35, 42, 3, 181, 0, 38, 42, 3, 181, 0, 41, 42, 2]
abbrev dktX28_begin_0 : List UInt8 := dkwX28_begin_0 ++ dktX28_begin_1
theorem dksX28_begin_0 : cX28_begin.data.toList.drop 0 = dktX28_begin_0 := by decide +kernel
theorem dksX28_begin_1 : cX28_begin.data.toList.drop 22 = dktX28_begin_1 := dk_seg dksX28_begin_0 22 rfl rfl
theorem dX28_begin_0 : decode cX28_begin 0 = .ok (.aload_n 0, 1) := dk_42 (dk_at dksX28_begin_0 0 rfl rfl)
theorem dX28_begin_1 : decode cX28_begin 1 = .ok (.iconst 0, 1) := dk_3 (dk_at dksX28_begin_0 1 rfl rfl)
theorem dX28_begin_2 : decode cX28_begin 2 = .ok (.putfield 31, 3) := dk_181 0 31 (dk_at dksX28_begin_0 2 rfl rfl)
theorem dX28_begin_5 : decode cX28_begin 5 = .ok (.aload_n 0, 1) := dk_42 (dk_at dksX28_begin_0 5 rfl rfl)
theorem dX28_begin_6 : decode cX28_begin 6 = .ok (.iconst 0, 1) := dk_3 (dk_at dksX28_begin_0 6 rfl rfl)
theorem dX28_begin_7 : decode cX28_begin 7 = .ok (.putfield 35, 3) := dk_181 0 35 (dk_at dksX28_begin_0 7 rfl rfl)
theorem dX28_begin_10 : decode cX28_begin 10 = .ok (.aload_n 0, 1) := dk_42 (dk_at dksX28_begin_0 10 rfl rfl)
theorem dX28_begin_11 : decode cX28_begin 11 = .ok (.iconst 0, 1) := dk_3 (dk_at dksX28_begin_0 11 rfl rfl)
theorem dX28_begin_12 : decode cX28_begin 12 = .ok (.putfield 38, 3) := dk_181 0 38 (dk_at dksX28_begin_0 12 rfl rfl)
theorem dX28_begin_15 : decode cX28_begin 15 = .ok (.aload_n 0, 1) := dk_42 (dk_at dksX28_begin_0 15 rfl rfl)
theorem dX28_begin_16 : decode cX28_begin 16 = .ok (.iconst 0, 1) := dk_3 (dk_at dksX28_begin_0 16 rfl rfl)
theorem dX28_begin_17 : decode cX28_begin 17 = .ok (.putfield 41, 3) := dk_181 0 41 (dk_at dksX28_begin_0 17 rfl rfl)
theorem dX28_begin_20 : decode cX28_begin 20 = .ok (.aload_n 0, 1) := dk_42 (dk_at dksX28_begin_0 20 rfl rfl)
theorem dX28_begin_21 : decode cX28_begin 21 = .ok (.iconst (-1), 1) := dk_2 (dk_at dksX28_begin_0 21 rfl rfl)
theorem dX28_begin_22 : decode cX28_begin 22 = .ok (.putfield 44, 3) := dk_181 0 44 (dk_at dksX28_begin_1 0 rfl rfl)
theorem dX28_begin_25 : decode cX28_begin 25 = .ok (.return_, 1) := dk_177 (dk_at dksX28_begin_1 3 rfl rfl)
abbrev cX28_add : ByteArray := prog_22_method_4_code
def yX28_add : MethodName := ⟨RX28, "add", "(III)I"⟩
def dkwX28_add_2 : List UInt8 := [4, 96, 181, 0, 31, 42, 180, 0, 31, 4, 100, 172]
abbrev dktX28_add_2 : List UInt8 := dkwX28_add_2 ++ []
def dkwX28_add_1 : List UInt8 := [42, 180, 0, 31, 29, 79, 42, 180, 0, 21, 42, 180, 0, 31, 42, 180, 0, 44, 79, 42, 89, 180, 0, 31]
abbrev dktX28_add_1 : List UInt8 := dkwX28_add_1 ++ dktX28_add_2
def dkwX28_add_0 : List UInt8 := [42, 180, 0, 11, 42, 180, 0, 31, 27, 79, 42, 180, 0, 15, 42, 180, 0, 31, 28, 79, 42, 180, 0, 18]
abbrev dktX28_add_0 : List UInt8 := dkwX28_add_0 ++ dktX28_add_1
theorem dksX28_add_0 : cX28_add.data.toList.drop 0 = dktX28_add_0 := by decide +kernel
theorem dksX28_add_1 : cX28_add.data.toList.drop 24 = dktX28_add_1 := dk_seg dksX28_add_0 24 rfl rfl
theorem dksX28_add_2 : cX28_add.data.toList.drop 48 = dktX28_add_2 := dk_seg dksX28_add_1 24 rfl rfl
theorem dX28_add_0 : decode cX28_add 0 = .ok (.aload_n 0, 1) := dk_42 (dk_at dksX28_add_0 0 rfl rfl)
theorem dX28_add_1 : decode cX28_add 1 = .ok (.getfield 11, 3) := dk_180 0 11 (dk_at dksX28_add_0 1 rfl rfl)
theorem dX28_add_4 : decode cX28_add 4 = .ok (.aload_n 0, 1) := dk_42 (dk_at dksX28_add_0 4 rfl rfl)
theorem dX28_add_5 : decode cX28_add 5 = .ok (.getfield 31, 3) := dk_180 0 31 (dk_at dksX28_add_0 5 rfl rfl)
theorem dX28_add_8 : decode cX28_add 8 = .ok (.iload_n 1, 1) := dk_27 (dk_at dksX28_add_0 8 rfl rfl)
theorem dX28_add_9 : decode cX28_add 9 = .ok (.iastore, 1) := dk_79 (dk_at dksX28_add_0 9 rfl rfl)
theorem dX28_add_10 : decode cX28_add 10 = .ok (.aload_n 0, 1) := dk_42 (dk_at dksX28_add_0 10 rfl rfl)
theorem dX28_add_11 : decode cX28_add 11 = .ok (.getfield 15, 3) := dk_180 0 15 (dk_at dksX28_add_0 11 rfl rfl)
theorem dX28_add_14 : decode cX28_add 14 = .ok (.aload_n 0, 1) := dk_42 (dk_at dksX28_add_0 14 rfl rfl)
theorem dX28_add_15 : decode cX28_add 15 = .ok (.getfield 31, 3) := dk_180 0 31 (dk_at dksX28_add_0 15 rfl rfl)
theorem dX28_add_18 : decode cX28_add 18 = .ok (.iload_n 2, 1) := dk_28 (dk_at dksX28_add_0 18 rfl rfl)
theorem dX28_add_19 : decode cX28_add 19 = .ok (.iastore, 1) := dk_79 (dk_at dksX28_add_0 19 rfl rfl)
theorem dX28_add_20 : decode cX28_add 20 = .ok (.aload_n 0, 1) := dk_42 (dk_at dksX28_add_0 20 rfl rfl)
theorem dX28_add_21 : decode cX28_add 21 = .ok (.getfield 18, 3) := dk_180 0 18 (dk_at dksX28_add_0 21 rfl rfl)
theorem dX28_add_24 : decode cX28_add 24 = .ok (.aload_n 0, 1) := dk_42 (dk_at dksX28_add_1 0 rfl rfl)
theorem dX28_add_25 : decode cX28_add 25 = .ok (.getfield 31, 3) := dk_180 0 31 (dk_at dksX28_add_1 1 rfl rfl)
theorem dX28_add_28 : decode cX28_add 28 = .ok (.iload_n 3, 1) := dk_29 (dk_at dksX28_add_1 4 rfl rfl)
theorem dX28_add_29 : decode cX28_add 29 = .ok (.iastore, 1) := dk_79 (dk_at dksX28_add_1 5 rfl rfl)
theorem dX28_add_30 : decode cX28_add 30 = .ok (.aload_n 0, 1) := dk_42 (dk_at dksX28_add_1 6 rfl rfl)
theorem dX28_add_31 : decode cX28_add 31 = .ok (.getfield 21, 3) := dk_180 0 21 (dk_at dksX28_add_1 7 rfl rfl)
theorem dX28_add_34 : decode cX28_add 34 = .ok (.aload_n 0, 1) := dk_42 (dk_at dksX28_add_1 10 rfl rfl)
theorem dX28_add_35 : decode cX28_add 35 = .ok (.getfield 31, 3) := dk_180 0 31 (dk_at dksX28_add_1 11 rfl rfl)
theorem dX28_add_38 : decode cX28_add 38 = .ok (.aload_n 0, 1) := dk_42 (dk_at dksX28_add_1 14 rfl rfl)
theorem dX28_add_39 : decode cX28_add 39 = .ok (.getfield 44, 3) := dk_180 0 44 (dk_at dksX28_add_1 15 rfl rfl)
theorem dX28_add_42 : decode cX28_add 42 = .ok (.iastore, 1) := dk_79 (dk_at dksX28_add_1 18 rfl rfl)
theorem dX28_add_43 : decode cX28_add 43 = .ok (.aload_n 0, 1) := dk_42 (dk_at dksX28_add_1 19 rfl rfl)
theorem dX28_add_44 : decode cX28_add 44 = .ok (.dup, 1) := dk_89 (dk_at dksX28_add_1 20 rfl rfl)
theorem dX28_add_45 : decode cX28_add 45 = .ok (.getfield 31, 3) := dk_180 0 31 (dk_at dksX28_add_1 21 rfl rfl)
theorem dX28_add_48 : decode cX28_add 48 = .ok (.iconst 1, 1) := dk_4 (dk_at dksX28_add_2 0 rfl rfl)
theorem dX28_add_49 : decode cX28_add 49 = .ok (.iadd, 1) := dk_96 (dk_at dksX28_add_2 1 rfl rfl)
theorem dX28_add_50 : decode cX28_add 50 = .ok (.putfield 31, 3) := dk_181 0 31 (dk_at dksX28_add_2 2 rfl rfl)
theorem dX28_add_53 : decode cX28_add 53 = .ok (.aload_n 0, 1) := dk_42 (dk_at dksX28_add_2 5 rfl rfl)
theorem dX28_add_54 : decode cX28_add 54 = .ok (.getfield 31, 3) := dk_180 0 31 (dk_at dksX28_add_2 6 rfl rfl)
theorem dX28_add_57 : decode cX28_add 57 = .ok (.iconst 1, 1) := dk_4 (dk_at dksX28_add_2 9 rfl rfl)
theorem dX28_add_58 : decode cX28_add 58 = .ok (.isub, 1) := dk_100 (dk_at dksX28_add_2 10 rfl rfl)
theorem dX28_add_59 : decode cX28_add 59 = .ok (.ireturn, 1) := dk_172 (dk_at dksX28_add_2 11 rfl rfl)
abbrev cX28_openLoop : ByteArray := prog_22_method_3_code
def yX28_openLoop : MethodName := ⟨RX28, "openLoop", "()I"⟩
def dkwX28_openLoop_1 : List UInt8 := [180, 0, 41, 4, 96, 181, 0, 41, 42, 180, 0, 44, 172]
abbrev dktX28_openLoop_1 : List UInt8 := dkwX28_openLoop_1 ++ []
def dkwX28_openLoop_0 : List UInt8 := [42, 180, 0, 24, 42, 180, 0, 41, 42, 180, 0, 44, 79, 42, 42, 180, 0, 41, 181, 0, 44, 42, 89]
abbrev dktX28_openLoop_0 : List UInt8 := dkwX28_openLoop_0 ++ dktX28_openLoop_1
theorem dksX28_openLoop_0 : cX28_openLoop.data.toList.drop 0 = dktX28_openLoop_0 := by decide +kernel
theorem dksX28_openLoop_1 : cX28_openLoop.data.toList.drop 23 = dktX28_openLoop_1 := dk_seg dksX28_openLoop_0 23 rfl rfl
theorem dX28_openLoop_0 : decode cX28_openLoop 0 = .ok (.aload_n 0, 1) := dk_42 (dk_at dksX28_openLoop_0 0 rfl rfl)
theorem dX28_openLoop_1 : decode cX28_openLoop 1 = .ok (.getfield 24, 3) := dk_180 0 24 (dk_at dksX28_openLoop_0 1 rfl rfl)
theorem dX28_openLoop_4 : decode cX28_openLoop 4 = .ok (.aload_n 0, 1) := dk_42 (dk_at dksX28_openLoop_0 4 rfl rfl)
theorem dX28_openLoop_5 : decode cX28_openLoop 5 = .ok (.getfield 41, 3) := dk_180 0 41 (dk_at dksX28_openLoop_0 5 rfl rfl)
theorem dX28_openLoop_8 : decode cX28_openLoop 8 = .ok (.aload_n 0, 1) := dk_42 (dk_at dksX28_openLoop_0 8 rfl rfl)
theorem dX28_openLoop_9 : decode cX28_openLoop 9 = .ok (.getfield 44, 3) := dk_180 0 44 (dk_at dksX28_openLoop_0 9 rfl rfl)
theorem dX28_openLoop_12 : decode cX28_openLoop 12 = .ok (.iastore, 1) := dk_79 (dk_at dksX28_openLoop_0 12 rfl rfl)
theorem dX28_openLoop_13 : decode cX28_openLoop 13 = .ok (.aload_n 0, 1) := dk_42 (dk_at dksX28_openLoop_0 13 rfl rfl)
theorem dX28_openLoop_14 : decode cX28_openLoop 14 = .ok (.aload_n 0, 1) := dk_42 (dk_at dksX28_openLoop_0 14 rfl rfl)
theorem dX28_openLoop_15 : decode cX28_openLoop 15 = .ok (.getfield 41, 3) := dk_180 0 41 (dk_at dksX28_openLoop_0 15 rfl rfl)
theorem dX28_openLoop_18 : decode cX28_openLoop 18 = .ok (.putfield 44, 3) := dk_181 0 44 (dk_at dksX28_openLoop_0 18 rfl rfl)
theorem dX28_openLoop_21 : decode cX28_openLoop 21 = .ok (.aload_n 0, 1) := dk_42 (dk_at dksX28_openLoop_0 21 rfl rfl)
theorem dX28_openLoop_22 : decode cX28_openLoop 22 = .ok (.dup, 1) := dk_89 (dk_at dksX28_openLoop_0 22 rfl rfl)
theorem dX28_openLoop_23 : decode cX28_openLoop 23 = .ok (.getfield 41, 3) := dk_180 0 41 (dk_at dksX28_openLoop_1 0 rfl rfl)
theorem dX28_openLoop_26 : decode cX28_openLoop 26 = .ok (.iconst 1, 1) := dk_4 (dk_at dksX28_openLoop_1 3 rfl rfl)
theorem dX28_openLoop_27 : decode cX28_openLoop 27 = .ok (.iadd, 1) := dk_96 (dk_at dksX28_openLoop_1 4 rfl rfl)
theorem dX28_openLoop_28 : decode cX28_openLoop 28 = .ok (.putfield 41, 3) := dk_181 0 41 (dk_at dksX28_openLoop_1 5 rfl rfl)
theorem dX28_openLoop_31 : decode cX28_openLoop 31 = .ok (.aload_n 0, 1) := dk_42 (dk_at dksX28_openLoop_1 8 rfl rfl)
theorem dX28_openLoop_32 : decode cX28_openLoop 32 = .ok (.getfield 44, 3) := dk_180 0 44 (dk_at dksX28_openLoop_1 9 rfl rfl)
theorem dX28_openLoop_35 : decode cX28_openLoop 35 = .ok (.ireturn, 1) := dk_172 (dk_at dksX28_openLoop_1 12 rfl rfl)
abbrev cX28_isIn : ByteArray := prog_22_method_5_code
def yX28_isIn : MethodName := ⟨RX28, "isIn", "(II)Z"⟩
def dkwX28_isIn_1 : List UInt8 := [153, 0, 7, 4, 167, 0, 4, 3, 172]
abbrev dktX28_isIn_1 : List UInt8 := dkwX28_isIn_1 ++ []
def dkwX28_isIn_0 : List UInt8 := [42, 180, 0, 27, 7, 27, 104, 28, 16, 6, 122, 96, 47, 28, 16, 63, 126, 123, 10, 127, 9, 148]
abbrev dktX28_isIn_0 : List UInt8 := dkwX28_isIn_0 ++ dktX28_isIn_1
theorem dksX28_isIn_0 : cX28_isIn.data.toList.drop 0 = dktX28_isIn_0 := by decide +kernel
theorem dksX28_isIn_1 : cX28_isIn.data.toList.drop 22 = dktX28_isIn_1 := dk_seg dksX28_isIn_0 22 rfl rfl
theorem dX28_isIn_0 : decode cX28_isIn 0 = .ok (.aload_n 0, 1) := dk_42 (dk_at dksX28_isIn_0 0 rfl rfl)
theorem dX28_isIn_1 : decode cX28_isIn 1 = .ok (.getfield 27, 3) := dk_180 0 27 (dk_at dksX28_isIn_0 1 rfl rfl)
theorem dX28_isIn_4 : decode cX28_isIn 4 = .ok (.iconst 4, 1) := dk_7 (dk_at dksX28_isIn_0 4 rfl rfl)
theorem dX28_isIn_5 : decode cX28_isIn 5 = .ok (.iload_n 1, 1) := dk_27 (dk_at dksX28_isIn_0 5 rfl rfl)
theorem dX28_isIn_6 : decode cX28_isIn 6 = .ok (.imul, 1) := dk_104 (dk_at dksX28_isIn_0 6 rfl rfl)
theorem dX28_isIn_7 : decode cX28_isIn 7 = .ok (.iload_n 2, 1) := dk_28 (dk_at dksX28_isIn_0 7 rfl rfl)
theorem dX28_isIn_8 : decode cX28_isIn 8 = .ok (.bipush 6, 2) := dk_16 6 (dk_at dksX28_isIn_0 8 rfl rfl)
theorem dX28_isIn_10 : decode cX28_isIn 10 = .ok (.ishr, 1) := dk_122 (dk_at dksX28_isIn_0 10 rfl rfl)
theorem dX28_isIn_11 : decode cX28_isIn 11 = .ok (.iadd, 1) := dk_96 (dk_at dksX28_isIn_0 11 rfl rfl)
theorem dX28_isIn_12 : decode cX28_isIn 12 = .ok (.laload, 1) := dk_47 (dk_at dksX28_isIn_0 12 rfl rfl)
theorem dX28_isIn_13 : decode cX28_isIn 13 = .ok (.iload_n 2, 1) := dk_28 (dk_at dksX28_isIn_0 13 rfl rfl)
theorem dX28_isIn_14 : decode cX28_isIn 14 = .ok (.bipush 63, 2) := dk_16 63 (dk_at dksX28_isIn_0 14 rfl rfl)
theorem dX28_isIn_16 : decode cX28_isIn 16 = .ok (.iand, 1) := dk_126 (dk_at dksX28_isIn_0 16 rfl rfl)
theorem dX28_isIn_17 : decode cX28_isIn 17 = .ok (.lshr, 1) := dk_123 (dk_at dksX28_isIn_0 17 rfl rfl)
theorem dX28_isIn_18 : decode cX28_isIn 18 = .ok (.lconst 1, 1) := dk_10 (dk_at dksX28_isIn_0 18 rfl rfl)
theorem dX28_isIn_19 : decode cX28_isIn 19 = .ok (.land, 1) := dk_127 (dk_at dksX28_isIn_0 19 rfl rfl)
theorem dX28_isIn_20 : decode cX28_isIn 20 = .ok (.lconst 0, 1) := dk_9 (dk_at dksX28_isIn_0 20 rfl rfl)
theorem dX28_isIn_21 : decode cX28_isIn 21 = .ok (.lcmp, 1) := dk_148 (dk_at dksX28_isIn_0 21 rfl rfl)
theorem dX28_isIn_22 : decode cX28_isIn 22 = .ok (.ifCond .eq 7, 3) := dk_153 0 7 (dk_at dksX28_isIn_1 0 rfl rfl)
theorem dX28_isIn_25 : decode cX28_isIn 25 = .ok (.iconst 1, 1) := dk_4 (dk_at dksX28_isIn_1 3 rfl rfl)
theorem dX28_isIn_26 : decode cX28_isIn 26 = .ok (.goto 4, 3) := dk_167 0 4 (dk_at dksX28_isIn_1 4 rfl rfl)
theorem dX28_isIn_29 : decode cX28_isIn 29 = .ok (.iconst 0, 1) := dk_3 (dk_at dksX28_isIn_1 7 rfl rfl)
theorem dX28_isIn_30 : decode cX28_isIn 30 = .ok (.ireturn, 1) := dk_172 (dk_at dksX28_isIn_1 8 rfl rfl)
theorem q544 : (Jvm.Cond.initialized "LibraryDesk$PatternThing") ∈ lw_all := lw_g (lw_at lw_m1 37 rfl) rfl
theorem q1642 : (Jvm.Cond.instantiable "LibraryDesk$PatternThing" (13 : Nat)) ∈ lw_all := lw_g (lw_at lw_m5 175 rfl) rfl
theorem q1644 : (Jvm.Cond.instanceMethod ({ cls := "LibraryDesk$PatternThing", name := "<init>", desc := "()V" } : Jvm.MethodName)) ∈ lw_all := lw_g (lw_at lw_m5 177 rfl) rfl
theorem q1645 : (Jvm.Cond.code ({ cls := "LibraryDesk$PatternThing", name := "<init>", desc := "()V" } : Jvm.MethodName) prog_22_method_1_code (1 : Nat) (Option.none : Option Jvm.ClassFile.FieldType)) ∈ lw_all := lw_g (lw_at lw_m5 178 rfl) rfl
theorem q1646 : (Jvm.Cond.methodLinkNest "LibraryDesk$PatternThing" (3 : Nat) ({ cls := "LibraryDesk$Thing", name := "<init>", desc := "(I)V" } : Jvm.MethodName) "LibraryDesk") ∈ lw_tbl := lw_at lw_m5 179 rfl
theorem q1647 : (Jvm.Cond.fieldLink "LibraryDesk$PatternThing" (11 : Nat) "LibraryDesk$PatternThing" "op" "[I") ∈ lw_all := lw_g (lw_at lw_m5 180 rfl) rfl
theorem q1650 : (Jvm.Cond.fieldLink "LibraryDesk$PatternThing" (15 : Nat) "LibraryDesk$PatternThing" "a" "[I") ∈ lw_all := lw_g (lw_at lw_m5 183 rfl) rfl
theorem q1653 : (Jvm.Cond.fieldLink "LibraryDesk$PatternThing" (18 : Nat) "LibraryDesk$PatternThing" "b" "[I") ∈ lw_all := lw_g (lw_at lw_m5 186 rfl) rfl
theorem q1656 : (Jvm.Cond.fieldLink "LibraryDesk$PatternThing" (21 : Nat) "LibraryDesk$PatternThing" "loopOf" "[I") ∈ lw_all := lw_g (lw_at lw_m5 189 rfl) rfl
theorem q1658 : (Jvm.Cond.fieldLink "LibraryDesk$PatternThing" (24 : Nat) "LibraryDesk$PatternThing" "oute\x72" "[I") ∈ lw_all := lw_g (lw_at lw_m5 191 rfl) rfl
theorem q1661 : (Jvm.Cond.fieldLink "LibraryDesk$PatternThing" (41 : Nat) "LibraryDesk$PatternThing" "loops" "I") ∈ lw_all := lw_g (lw_at lw_m5 194 rfl) rfl
theorem q1662 : (Jvm.Cond.fieldLink "LibraryDesk$PatternThing" (44 : Nat) "LibraryDesk$PatternThing" "loop" "I") ∈ lw_all := lw_g (lw_at lw_m5 195 rfl) rfl
theorem q1664 : (Jvm.Cond.fieldLink "LibraryDesk$PatternThing" (31 : Nat) "LibraryDesk$PatternThing" "many" "I") ∈ lw_all := lw_g (lw_at lw_m5 197 rfl) rfl
theorem q1667 : (Jvm.Cond.fieldLink "LibraryDesk$PatternThing" (27 : Nat) "LibraryDesk$PatternThing" "sets" "[J") ∈ lw_all := lw_g (lw_at lw_m5 200 rfl) rfl
theorem q1669 : (Jvm.Cond.fieldLink "LibraryDesk$PatternThing" (35 : Nat) "LibraryDesk$PatternThing" "setMany" "I") ∈ lw_all := lw_g (lw_at lw_m5 202 rfl) rfl
theorem q1671 : (Jvm.Cond.fieldLink "LibraryDesk$PatternThing" (38 : Nat) "LibraryDesk$PatternThing" "groups" "I") ∈ lw_all := lw_g (lw_at lw_m5 204 rfl) rfl
theorem q1673 : (Jvm.Cond.laysFinal "LibraryDesk$PatternThing" "LibraryDesk$PatternThing" "op" "[I") ∈ lw_all := lw_g (lw_at lw_m5 206 rfl) rfl
theorem q1674 : (Jvm.Cond.soleField "LibraryDesk$PatternThing" "op") ∈ lw_all := lw_g (lw_at lw_m5 207 rfl) rfl
theorem q1675 : (Jvm.Cond.laysFinal "LibraryDesk$PatternThing" "LibraryDesk$PatternThing" "a" "[I") ∈ lw_all := lw_g (lw_at lw_m5 208 rfl) rfl
theorem q1676 : (Jvm.Cond.soleField "LibraryDesk$PatternThing" "a") ∈ lw_all := lw_g (lw_at lw_m5 209 rfl) rfl
theorem q1677 : (Jvm.Cond.laysFinal "LibraryDesk$PatternThing" "LibraryDesk$PatternThing" "b" "[I") ∈ lw_all := lw_g (lw_at lw_m5 210 rfl) rfl
theorem q1678 : (Jvm.Cond.soleField "LibraryDesk$PatternThing" "b") ∈ lw_all := lw_g (lw_at lw_m5 211 rfl) rfl
theorem q1679 : (Jvm.Cond.laysFinal "LibraryDesk$PatternThing" "LibraryDesk$PatternThing" "loopOf" "[I") ∈ lw_all := lw_g (lw_at lw_m5 212 rfl) rfl
theorem q1680 : (Jvm.Cond.soleField "LibraryDesk$PatternThing" "loopOf") ∈ lw_all := lw_g (lw_at lw_m5 213 rfl) rfl
theorem q1681 : (Jvm.Cond.laysFinal "LibraryDesk$PatternThing" "LibraryDesk$PatternThing" "oute\x72" "[I") ∈ lw_all := lw_g (lw_at lw_m5 214 rfl) rfl
theorem q1682 : (Jvm.Cond.soleField "LibraryDesk$PatternThing" "oute\x72") ∈ lw_all := lw_g (lw_at lw_m5 215 rfl) rfl
theorem q1683 : (Jvm.Cond.lays "LibraryDesk$PatternThing" "LibraryDesk$PatternThing" "loops" "I") ∈ lw_all := lw_g (lw_at lw_m5 216 rfl) rfl
theorem q1684 : (Jvm.Cond.soleField "LibraryDesk$PatternThing" "loops") ∈ lw_all := lw_g (lw_at lw_m5 217 rfl) rfl
theorem q1685 : (Jvm.Cond.lays "LibraryDesk$PatternThing" "LibraryDesk$PatternThing" "loop" "I") ∈ lw_all := lw_g (lw_at lw_m5 218 rfl) rfl
theorem q1686 : (Jvm.Cond.soleField "LibraryDesk$PatternThing" "loop") ∈ lw_all := lw_g (lw_at lw_m5 219 rfl) rfl
theorem q1687 : (Jvm.Cond.lays "LibraryDesk$PatternThing" "LibraryDesk$PatternThing" "many" "I") ∈ lw_all := lw_g (lw_at lw_m5 220 rfl) rfl
theorem q1688 : (Jvm.Cond.soleField "LibraryDesk$PatternThing" "many") ∈ lw_all := lw_g (lw_at lw_m5 221 rfl) rfl
theorem q1689 : (Jvm.Cond.laysFinal "LibraryDesk$PatternThing" "LibraryDesk$PatternThing" "sets" "[J") ∈ lw_all := lw_g (lw_at lw_m5 222 rfl) rfl
theorem q1690 : (Jvm.Cond.soleField "LibraryDesk$PatternThing" "sets") ∈ lw_all := lw_g (lw_at lw_m5 223 rfl) rfl
theorem q1691 : (Jvm.Cond.lays "LibraryDesk$PatternThing" "LibraryDesk$PatternThing" "setMany" "I") ∈ lw_all := lw_g (lw_at lw_m5 224 rfl) rfl
theorem q1692 : (Jvm.Cond.soleField "LibraryDesk$PatternThing" "setMany") ∈ lw_all := lw_g (lw_at lw_m5 225 rfl) rfl
theorem q1693 : (Jvm.Cond.lays "LibraryDesk$PatternThing" "LibraryDesk$PatternThing" "groups" "I") ∈ lw_all := lw_g (lw_at lw_m5 226 rfl) rfl
theorem q1694 : (Jvm.Cond.soleField "LibraryDesk$PatternThing" "groups") ∈ lw_all := lw_g (lw_at lw_m5 227 rfl) rfl
theorem q1695 : (Jvm.Cond.laysFinal "LibraryDesk$PatternThing" "LibraryDesk$Thing" "kind" "I") ∈ lw_all := lw_g (lw_at lw_m5 228 rfl) rfl
theorem q1696 : (Jvm.Cond.lays "LibraryDesk$PatternThing" "LibraryDesk$Thing" "used" "Z") ∈ lw_all := lw_g (lw_at lw_m5 229 rfl) rfl
theorem q1697 : (Jvm.Cond.superclass "LibraryDesk$PatternThing" "LibraryDesk$Thing") ∈ lw_all := lw_g (lw_at lw_m5 230 rfl) rfl
theorem q3164 : (Jvm.Cond.privateMethod ({ cls := "LibraryDesk$PatternThing", name := "begin", desc := "()V" } : Jvm.MethodName)) ∈ lw_tbl := lw_at lw_m12 17 rfl
theorem q3165 : (Jvm.Cond.instanceMethod ({ cls := "LibraryDesk$PatternThing", name := "begin", desc := "()V" } : Jvm.MethodName)) ∈ lw_all := lw_g (lw_at lw_m12 18 rfl) rfl
theorem q3166 : (Jvm.Cond.code ({ cls := "LibraryDesk$PatternThing", name := "begin", desc := "()V" } : Jvm.MethodName) prog_22_method_2_code (1 : Nat) (Option.none : Option Jvm.ClassFile.FieldType)) ∈ lw_all := lw_g (lw_at lw_m12 19 rfl) rfl
theorem q3218 : (Jvm.Cond.privateMethod ({ cls := "LibraryDesk$PatternThing", name := "add", desc := "(III)I" } : Jvm.MethodName)) ∈ lw_tbl := lw_at lw_m12 71 rfl
theorem q3219 : (Jvm.Cond.instanceMethod ({ cls := "LibraryDesk$PatternThing", name := "add", desc := "(III)I" } : Jvm.MethodName)) ∈ lw_all := lw_g (lw_at lw_m12 72 rfl) rfl
theorem q3220 : (Jvm.Cond.code ({ cls := "LibraryDesk$PatternThing", name := "add", desc := "(III)I" } : Jvm.MethodName) prog_22_method_4_code (4 : Nat) (Option.some Jvm.ClassFile.FieldType.int)) ∈ lw_all := lw_g (lw_at lw_m12 73 rfl) rfl
theorem q3305 : (Jvm.Cond.privateMethod ({ cls := "LibraryDesk$PatternThing", name := "openLoop", desc := "()I" } : Jvm.MethodName)) ∈ lw_tbl := lw_at lw_m12 158 rfl
theorem q3306 : (Jvm.Cond.instanceMethod ({ cls := "LibraryDesk$PatternThing", name := "openLoop", desc := "()I" } : Jvm.MethodName)) ∈ lw_all := lw_g (lw_at lw_m12 159 rfl) rfl
theorem q3307 : (Jvm.Cond.code ({ cls := "LibraryDesk$PatternThing", name := "openLoop", desc := "()I" } : Jvm.MethodName) prog_22_method_3_code (1 : Nat) (Option.some Jvm.ClassFile.FieldType.int)) ∈ lw_all := lw_g (lw_at lw_m12 160 rfl) rfl
theorem q3388 : (Jvm.Cond.privateMethod ({ cls := "LibraryDesk$PatternThing", name := "isIn", desc := "(II)Z" } : Jvm.MethodName)) ∈ lw_tbl := lw_at lw_m13 1 rfl
theorem q3389 : (Jvm.Cond.instanceMethod ({ cls := "LibraryDesk$PatternThing", name := "isIn", desc := "(II)Z" } : Jvm.MethodName)) ∈ lw_all := lw_g (lw_at lw_m13 2 rfl) rfl
theorem q3390 : (Jvm.Cond.code ({ cls := "LibraryDesk$PatternThing", name := "isIn", desc := "(II)Z" } : Jvm.MethodName) prog_22_method_5_code (3 : Nat) (Option.some Jvm.ClassFile.FieldType.boolean)) ∈ lw_all := lw_g (lw_at lw_m13 3 rfl) rfl
theorem q6089 : (Jvm.Cond.selects "LibraryDesk$PatternThing" ({ cls := "LibraryDesk$Thing", name := "kind", desc := "()I" } : Jvm.MethodName) ({ cls := "LibraryDesk$Thing", name := "kind", desc := "()I" } : Jvm.MethodName)) ∈ lw_all := lw_g (lw_at lw_m24 62 rfl) rfl
theorem q6136 : (Jvm.Cond.castable "LibraryDesk$PatternThing" "java/lang/Object") ∈ lw_tbl := lw_at lw_m24 109 rfl
theorem q6161 : (Jvm.Cond.castable "LibraryDesk$PatternThing" "LibraryDesk$Thing") ∈ lw_tbl := lw_at lw_m24 134 rfl
theorem in_X28 : ∀ w ∈ wsX280, w ∈ lw_all := lw_in wsX280 [1695, 1696, 1673, 1675, 1677, 1679, 1681, 1683, 1685, 1687, 1689, 1691, 1693] (by decide +kernel) (by decide +kernel)

