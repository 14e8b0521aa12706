/-! LibraryDesk$ListWork -/
set_option maxRecDepth 100000
def RX3 : String := "LibraryDesk$ListWork"
def TX3 : u_T := fun k => match k with
  | 0 => ("LibraryDesk$ListWork", "spare", "[I", true)
  | _ => ("LibraryDesk$ListWork", "othe\x72", "[I", true)
def tyX3 : Nat → FieldType := fun k => match k with
  | 0 => .array .int
  | _ => .array .int
abbrev wsX30 : List Cond := u_ws RX3 TX3 2
theorem nmX3 : ∀ a, a < 2 → ∀ b, b < 2 → a ≠ b → (TX3 a).2.1 ≠ (TX3 b).2.1 := by decide +kernel
theorem tyX3_ok : ∀ k, k < 2 → parseFieldDescriptor (TX3 k).2.2.1 = some (tyX3 k) := by decide +kernel
abbrev cX3_init : ByteArray := prog_14_method_1_code
def yX3_init : MethodName := ⟨RX3, "<init>", "()V"⟩
def dkwX3_init_0 : List UInt8 := [42, 183, 0, 3, 42, 17, 7, 208, 188, 10, 181, 0, 9, 42, 17, 7, 208, 188, 10, 181, 0, 15, 177]
abbrev dktX3_init_0 : List UInt8 := dkwX3_init_0 ++ []
theorem dksX3_init_0 : cX3_init.data.toList.drop 0 = dktX3_init_0 := by decide +kernel
theorem dX3_init_0 : decode cX3_init 0 = .ok (.aload_n 0, 1) := dk_42 (dk_at dksX3_init_0 0 rfl rfl)
theorem dX3_init_1 : decode cX3_init 1 = .ok (.invokespecial 3, 3) := dk_183 0 3 (dk_at dksX3_init_0 1 rfl rfl)
theorem dX3_init_4 : decode cX3_init 4 = .ok (.aload_n 0, 1) := dk_42 (dk_at dksX3_init_0 4 rfl rfl)
theorem dX3_init_5 : decode cX3_init 5 = .ok (.sipush 2000, 3) := dk_17 7 208 (dk_at dksX3_init_0 5 rfl rfl)
theorem dX3_init_8 : decode cX3_init 8 = .ok (.newarray .int, 2) := dk_188_10 (dk_at dksX3_init_0 8 rfl rfl)
theorem dX3_init_10 : decode cX3_init 10 = .ok (.putfield 9, 3) := dk_181 0 9 (dk_at dksX3_init_0 10 rfl rfl)
theorem dX3_init_13 : decode cX3_init 13 = .ok (.aload_n 0, 1) := dk_42 (dk_at dksX3_init_0 13 rfl rfl)
theorem dX3_init_14 : decode cX3_init 14 = .ok (.sipush 2000, 3) := dk_17 7 208 (dk_at dksX3_init_0 14 rfl rfl)
theorem dX3_init_17 : decode cX3_init 17 = .ok (.newarray .int, 2) := dk_188_10 (dk_at dksX3_init_0 17 rfl rfl)
theorem dX3_init_19 : decode cX3_init 19 = .ok (.putfield 15, 3) := dk_181 0 15 (dk_at dksX3_init_0 19 rfl rfl)
theorem dX3_init_22 : decode cX3_init 22 = .ok (.return_, 1) := dk_177 (dk_at dksX3_init_0 22 rfl rfl)
abbrev cX3_asksOther : ByteArray := prog_14_method_21_code
def yX3_asksOther : MethodName := ⟨RX3, "asksOthe\x72", "(I)Z"⟩
def dkwX3_asksOther_0 : List UInt8 := [26, 16, 9, 161, 0, 9, 26, 16, 11, 164, 0, 9, 26, 16, 26, 160, 0, 7, 4, 167, 0, 4, 3, 172]
abbrev dktX3_asksOther_0 : List UInt8 := dkwX3_asksOther_0 ++ []
theorem dksX3_asksOther_0 : cX3_asksOther.data.toList.drop 0 = dktX3_asksOther_0 := by decide +kernel
theorem dX3_asksOther_0 : decode cX3_asksOther 0 = .ok (.iload_n 0, 1) := dk_26 (dk_at dksX3_asksOther_0 0 rfl rfl)
theorem dX3_asksOther_1 : decode cX3_asksOther 1 = .ok (.bipush 9, 2) := dk_16 9 (dk_at dksX3_asksOther_0 1 rfl rfl)
theorem dX3_asksOther_3 : decode cX3_asksOther 3 = .ok (.if_icmp .lt 9, 3) := dk_161 0 9 (dk_at dksX3_asksOther_0 3 rfl rfl)
theorem dX3_asksOther_6 : decode cX3_asksOther 6 = .ok (.iload_n 0, 1) := dk_26 (dk_at dksX3_asksOther_0 6 rfl rfl)
theorem dX3_asksOther_7 : decode cX3_asksOther 7 = .ok (.bipush 11, 2) := dk_16 11 (dk_at dksX3_asksOther_0 7 rfl rfl)
theorem dX3_asksOther_9 : decode cX3_asksOther 9 = .ok (.if_icmp .le 9, 3) := dk_164 0 9 (dk_at dksX3_asksOther_0 9 rfl rfl)
theorem dX3_asksOther_12 : decode cX3_asksOther 12 = .ok (.iload_n 0, 1) := dk_26 (dk_at dksX3_asksOther_0 12 rfl rfl)
theorem dX3_asksOther_13 : decode cX3_asksOther 13 = .ok (.bipush 26, 2) := dk_16 26 (dk_at dksX3_asksOther_0 13 rfl rfl)
theorem dX3_asksOther_15 : decode cX3_asksOther 15 = .ok (.if_icmp .ne 7, 3) := dk_160 0 7 (dk_at dksX3_asksOther_0 15 rfl rfl)
theorem dX3_asksOther_18 : decode cX3_asksOther 18 = .ok (.iconst 1, 1) := dk_4 (dk_at dksX3_asksOther_0 18 rfl rfl)
theorem dX3_asksOther_19 : decode cX3_asksOther 19 = .ok (.goto 4, 3) := dk_167 0 4 (dk_at dksX3_asksOther_0 19 rfl rfl)
theorem dX3_asksOther_22 : decode cX3_asksOther 22 = .ok (.iconst 0, 1) := dk_3 (dk_at dksX3_asksOther_0 22 rfl rfl)
theorem dX3_asksOther_23 : decode cX3_asksOther 23 = .ok (.ireturn, 1) := dk_172 (dk_at dksX3_asksOther_0 23 rfl rfl)
abbrev cX3_call : ByteArray := prog_14_method_22_code
def yX3_call : MethodName := ⟨RX3, "call", "(LLibraryDesk$Places;III)J"⟩
def dkwX3_call_12 : List UInt8 := [182, 0, 134, 173]
abbrev dktX3_call_12 : List UInt8 := dkwX3_call_12 ++ []
def dkwX3_call_11 : List UInt8 := [184, 0, 36, 43, 29, 21, 4, 29, 100, 182, 0, 32, 21, 4, 29, 100, 133, 173, 42, 43, 28, 29, 21, 4]
abbrev dktX3_call_11 : List UInt8 := dkwX3_call_11 ++ dktX3_call_12
def dkwX3_call_10 : List UInt8 := [3, 29, 163, 0, 20, 29, 21, 4, 163, 0, 14, 21, 4, 21, 5, 163, 0, 7, 4, 167, 0, 4, 3]
abbrev dktX3_call_10 : List UInt8 := dkwX3_call_10 ++ dktX3_call_11
def dkwX3_call_9 : List UInt8 := [173, 43, 184, 0, 123, 133, 173, 21, 5, 133, 173, 43, 184, 0, 127, 133, 173, 43, 28, 29, 184, 0, 130, 173]
abbrev dktX3_call_9 : List UInt8 := dkwX3_call_9 ++ dktX3_call_10
def dkwX3_call_8 : List UInt8 := [173, 43, 29, 184, 0, 115, 133, 173, 43, 28, 16, 22, 160, 0, 7, 4, 167, 0, 4, 3, 184, 0, 119, 133]
abbrev dktX3_call_8 : List UInt8 := dkwX3_call_8 ++ dktX3_call_9
def dkwX3_call_7 : List UInt8 := [182, 0, 32, 21, 5, 133, 173, 43, 29, 21, 4, 184, 0, 108, 133, 173, 43, 29, 21, 4, 184, 0, 112, 133]
abbrev dktX3_call_7 : List UInt8 := dkwX3_call_7 ++ dktX3_call_8
def dkwX3_call_6 : List UInt8 := [167, 0, 4, 9, 173, 43, 29, 182, 0, 102, 133, 173, 43, 29, 182, 0, 105, 133, 173, 43, 3, 21, 5]
abbrev dktX3_call_6 : List UInt8 := dkwX3_call_6 ++ dktX3_call_7
def dkwX3_call_5 : List UInt8 := [29, 182, 0, 102, 54, 6, 21, 6, 155, 0, 10, 43, 21, 6, 4, 182, 0, 32, 21, 6, 155, 0, 7, 10]
abbrev dktX3_call_5 : List UInt8 := dkwX3_call_5 ++ dktX3_call_6
def dkwX3_call_4 : List UInt8 := [29, 21, 5, 162, 0, 7, 4, 167, 0, 4, 3, 184, 0, 36, 43, 28, 29, 21, 4, 184, 0, 98, 173, 43]
abbrev dktX3_call_4 : List UInt8 := dkwX3_call_4 ++ dktX3_call_5
def dkwX3_call_3 : List UInt8 := [167, 0, 4, 3, 184, 0, 36, 43, 29, 21, 4, 182, 0, 95, 21, 5, 133, 10, 97, 173, 29, 155, 0, 13]
abbrev dktX3_call_3 : List UInt8 := dkwX3_call_3 ++ dktX3_call_4
def dkwX3_call_2 : List UInt8 := [43, 21, 5, 29, 182, 0, 95, 21, 5, 133, 10, 97, 173, 29, 155, 0, 13, 29, 21, 5, 163, 0, 7, 4]
abbrev dktX3_call_2 : List UInt8 := dkwX3_call_2 ++ dktX3_call_3
def dkwX3_call_1 : List UInt8 := [170, 0, 0, 1, 113, 0, 0, 0, 0, 0, 0, 0, 30, 0, 0, 0, 137, 0, 0, 0, 150, 0, 0, 0, 181, 0, 0, 0, 181, 0, 0, 0, 181, 0, 0, 0, 208, 0, 0, 0, 238, 0, 0, 0, 245, 0, 0, 0, 252, 0, 0, 1, 113, 0, 0, 1, 113, 0, 0, 1, 113, 0, 0, 1, 113, 0, 0, 1, 113, 0, 0, 1, 113, 0, 0, 1, 113, 0, 0, 1, 113, 0, 0, 1, 113, 0, 0, 1, 7, 0, 0, 1, 16, 0, 0, 1, 25, 0, 0, 1, 32, 0, 0, 1, 32, 0, 0, 1, 49, 0, 0, 1, 55, 0, 0, 1, 59, 0, 0, 1, 113, 0, 0, 1, 65, 0, 0, 1, 65, 0, 0, 1, 65, 0, 0, 1, 72]
abbrev dktX3_call_1 : List UInt8 := dkwX3_call_1 ++ dktX3_call_2
def dkwX3_call_0 : List UInt8 := [43, 182, 0, 22, 54, 5, 28]
abbrev dktX3_call_0 : List UInt8 := dkwX3_call_0 ++ dktX3_call_1
theorem dksX3_call_0 : cX3_call.data.toList.drop 0 = dktX3_call_0 := by decide +kernel
theorem dksX3_call_1 : cX3_call.data.toList.drop 7 = dktX3_call_1 := dk_seg dksX3_call_0 7 rfl rfl
theorem dksX3_call_2 : cX3_call.data.toList.drop 144 = dktX3_call_2 := dk_seg dksX3_call_1 137 rfl rfl
theorem dksX3_call_3 : cX3_call.data.toList.drop 168 = dktX3_call_3 := dk_seg dksX3_call_2 24 rfl rfl
theorem dksX3_call_4 : cX3_call.data.toList.drop 192 = dktX3_call_4 := dk_seg dksX3_call_3 24 rfl rfl
theorem dksX3_call_5 : cX3_call.data.toList.drop 216 = dktX3_call_5 := dk_seg dksX3_call_4 24 rfl rfl
theorem dksX3_call_6 : cX3_call.data.toList.drop 240 = dktX3_call_6 := dk_seg dksX3_call_5 24 rfl rfl
theorem dksX3_call_7 : cX3_call.data.toList.drop 263 = dktX3_call_7 := dk_seg dksX3_call_6 23 rfl rfl
theorem dksX3_call_8 : cX3_call.data.toList.drop 287 = dktX3_call_8 := dk_seg dksX3_call_7 24 rfl rfl
theorem dksX3_call_9 : cX3_call.data.toList.drop 311 = dktX3_call_9 := dk_seg dksX3_call_8 24 rfl rfl
theorem dksX3_call_10 : cX3_call.data.toList.drop 335 = dktX3_call_10 := dk_seg dksX3_call_9 24 rfl rfl
theorem dksX3_call_11 : cX3_call.data.toList.drop 358 = dktX3_call_11 := dk_seg dksX3_call_10 23 rfl rfl
theorem dksX3_call_12 : cX3_call.data.toList.drop 382 = dktX3_call_12 := dk_seg dksX3_call_11 24 rfl rfl
theorem dX3_call_0 : decode cX3_call 0 = .ok (.aload_n 1, 1) := dk_43 (dk_at dksX3_call_0 0 rfl rfl)
theorem dX3_call_1 : decode cX3_call 1 = .ok (.invokevirtual 22, 3) := dk_182 0 22 (dk_at dksX3_call_0 1 rfl rfl)
theorem dX3_call_4 : decode cX3_call 4 = .ok (.istore 5, 2) := dk_54 5 (dk_at dksX3_call_0 4 rfl rfl)
theorem dX3_call_6 : decode cX3_call 6 = .ok (.iload_n 2, 1) := dk_28 (dk_at dksX3_call_0 6 rfl rfl)
theorem dX3_call_7 : decode cX3_call 7 = .ok (.tableswitch 369 0 30 #[137, 150, 181, 181, 181, 208, 238, 245, 252, 369, 369, 369, 369, 369, 369, 369, 369, 369, 263, 272, 281, 288, 288, 305, 311, 315, 369, 321, 321, 321, 328], 137) := by decide +kernel
theorem dX3_call_144 : decode cX3_call 144 = .ok (.aload_n 1, 1) := dk_43 (dk_at dksX3_call_2 0 rfl rfl)
theorem dX3_call_145 : decode cX3_call 145 = .ok (.iload 5, 2) := dk_21 5 (dk_at dksX3_call_2 1 rfl rfl)
theorem dX3_call_147 : decode cX3_call 147 = .ok (.iload_n 3, 1) := dk_29 (dk_at dksX3_call_2 3 rfl rfl)
theorem dX3_call_148 : decode cX3_call 148 = .ok (.invokevirtual 95, 3) := dk_182 0 95 (dk_at dksX3_call_2 4 rfl rfl)
theorem dX3_call_151 : decode cX3_call 151 = .ok (.iload 5, 2) := dk_21 5 (dk_at dksX3_call_2 7 rfl rfl)
theorem dX3_call_153 : decode cX3_call 153 = .ok (.i2l, 1) := dk_133 (dk_at dksX3_call_2 9 rfl rfl)
theorem dX3_call_154 : decode cX3_call 154 = .ok (.lconst 1, 1) := dk_10 (dk_at dksX3_call_2 10 rfl rfl)
theorem dX3_call_155 : decode cX3_call 155 = .ok (.ladd, 1) := dk_97 (dk_at dksX3_call_2 11 rfl rfl)
theorem dX3_call_156 : decode cX3_call 156 = .ok (.lreturn, 1) := dk_173 (dk_at dksX3_call_2 12 rfl rfl)
theorem dX3_call_157 : decode cX3_call 157 = .ok (.iload_n 3, 1) := dk_29 (dk_at dksX3_call_2 13 rfl rfl)
theorem dX3_call_158 : decode cX3_call 158 = .ok (.ifCond .lt 13, 3) := dk_155 0 13 (dk_at dksX3_call_2 14 rfl rfl)
theorem dX3_call_161 : decode cX3_call 161 = .ok (.iload_n 3, 1) := dk_29 (dk_at dksX3_call_2 17 rfl rfl)
theorem dX3_call_162 : decode cX3_call 162 = .ok (.iload 5, 2) := dk_21 5 (dk_at dksX3_call_2 18 rfl rfl)
theorem dX3_call_164 : decode cX3_call 164 = .ok (.if_icmp .gt 7, 3) := dk_163 0 7 (dk_at dksX3_call_2 20 rfl rfl)
theorem dX3_call_167 : decode cX3_call 167 = .ok (.iconst 1, 1) := dk_4 (dk_at dksX3_call_2 23 rfl rfl)
theorem dX3_call_168 : decode cX3_call 168 = .ok (.goto 4, 3) := dk_167 0 4 (dk_at dksX3_call_3 0 rfl rfl)
theorem dX3_call_171 : decode cX3_call 171 = .ok (.iconst 0, 1) := dk_3 (dk_at dksX3_call_3 3 rfl rfl)
theorem dX3_call_172 : decode cX3_call 172 = .ok (.invokestatic 36, 3) := dk_184 0 36 (dk_at dksX3_call_3 4 rfl rfl)
theorem dX3_call_175 : decode cX3_call 175 = .ok (.aload_n 1, 1) := dk_43 (dk_at dksX3_call_3 7 rfl rfl)
theorem dX3_call_176 : decode cX3_call 176 = .ok (.iload_n 3, 1) := dk_29 (dk_at dksX3_call_3 8 rfl rfl)
theorem dX3_call_177 : decode cX3_call 177 = .ok (.iload 4, 2) := dk_21 4 (dk_at dksX3_call_3 9 rfl rfl)
theorem dX3_call_179 : decode cX3_call 179 = .ok (.invokevirtual 95, 3) := dk_182 0 95 (dk_at dksX3_call_3 11 rfl rfl)
theorem dX3_call_182 : decode cX3_call 182 = .ok (.iload 5, 2) := dk_21 5 (dk_at dksX3_call_3 14 rfl rfl)
theorem dX3_call_184 : decode cX3_call 184 = .ok (.i2l, 1) := dk_133 (dk_at dksX3_call_3 16 rfl rfl)
theorem dX3_call_185 : decode cX3_call 185 = .ok (.lconst 1, 1) := dk_10 (dk_at dksX3_call_3 17 rfl rfl)
theorem dX3_call_186 : decode cX3_call 186 = .ok (.ladd, 1) := dk_97 (dk_at dksX3_call_3 18 rfl rfl)
theorem dX3_call_187 : decode cX3_call 187 = .ok (.lreturn, 1) := dk_173 (dk_at dksX3_call_3 19 rfl rfl)
theorem dX3_call_188 : decode cX3_call 188 = .ok (.iload_n 3, 1) := dk_29 (dk_at dksX3_call_3 20 rfl rfl)
theorem dX3_call_189 : decode cX3_call 189 = .ok (.ifCond .lt 13, 3) := dk_155 0 13 (dk_at dksX3_call_3 21 rfl rfl)
theorem dX3_call_192 : decode cX3_call 192 = .ok (.iload_n 3, 1) := dk_29 (dk_at dksX3_call_4 0 rfl rfl)
theorem dX3_call_193 : decode cX3_call 193 = .ok (.iload 5, 2) := dk_21 5 (dk_at dksX3_call_4 1 rfl rfl)
theorem dX3_call_195 : decode cX3_call 195 = .ok (.if_icmp .ge 7, 3) := dk_162 0 7 (dk_at dksX3_call_4 3 rfl rfl)
theorem dX3_call_198 : decode cX3_call 198 = .ok (.iconst 1, 1) := dk_4 (dk_at dksX3_call_4 6 rfl rfl)
theorem dX3_call_199 : decode cX3_call 199 = .ok (.goto 4, 3) := dk_167 0 4 (dk_at dksX3_call_4 7 rfl rfl)
theorem dX3_call_202 : decode cX3_call 202 = .ok (.iconst 0, 1) := dk_3 (dk_at dksX3_call_4 10 rfl rfl)
theorem dX3_call_203 : decode cX3_call 203 = .ok (.invokestatic 36, 3) := dk_184 0 36 (dk_at dksX3_call_4 11 rfl rfl)
theorem dX3_call_206 : decode cX3_call 206 = .ok (.aload_n 1, 1) := dk_43 (dk_at dksX3_call_4 14 rfl rfl)
theorem dX3_call_207 : decode cX3_call 207 = .ok (.iload_n 2, 1) := dk_28 (dk_at dksX3_call_4 15 rfl rfl)
theorem dX3_call_208 : decode cX3_call 208 = .ok (.iload_n 3, 1) := dk_29 (dk_at dksX3_call_4 16 rfl rfl)
theorem dX3_call_209 : decode cX3_call 209 = .ok (.iload 4, 2) := dk_21 4 (dk_at dksX3_call_4 17 rfl rfl)
theorem dX3_call_211 : decode cX3_call 211 = .ok (.invokestatic 98, 3) := dk_184 0 98 (dk_at dksX3_call_4 19 rfl rfl)
theorem dX3_call_214 : decode cX3_call 214 = .ok (.lreturn, 1) := dk_173 (dk_at dksX3_call_4 22 rfl rfl)
theorem dX3_call_215 : decode cX3_call 215 = .ok (.aload_n 1, 1) := dk_43 (dk_at dksX3_call_4 23 rfl rfl)
theorem dX3_call_216 : decode cX3_call 216 = .ok (.iload_n 3, 1) := dk_29 (dk_at dksX3_call_5 0 rfl rfl)
theorem dX3_call_217 : decode cX3_call 217 = .ok (.invokevirtual 102, 3) := dk_182 0 102 (dk_at dksX3_call_5 1 rfl rfl)
theorem dX3_call_220 : decode cX3_call 220 = .ok (.istore 6, 2) := dk_54 6 (dk_at dksX3_call_5 4 rfl rfl)
theorem dX3_call_222 : decode cX3_call 222 = .ok (.iload 6, 2) := dk_21 6 (dk_at dksX3_call_5 6 rfl rfl)
theorem dX3_call_224 : decode cX3_call 224 = .ok (.ifCond .lt 10, 3) := dk_155 0 10 (dk_at dksX3_call_5 8 rfl rfl)
theorem dX3_call_227 : decode cX3_call 227 = .ok (.aload_n 1, 1) := dk_43 (dk_at dksX3_call_5 11 rfl rfl)
theorem dX3_call_228 : decode cX3_call 228 = .ok (.iload 6, 2) := dk_21 6 (dk_at dksX3_call_5 12 rfl rfl)
theorem dX3_call_230 : decode cX3_call 230 = .ok (.iconst 1, 1) := dk_4 (dk_at dksX3_call_5 14 rfl rfl)
theorem dX3_call_231 : decode cX3_call 231 = .ok (.invokevirtual 32, 3) := dk_182 0 32 (dk_at dksX3_call_5 15 rfl rfl)
theorem dX3_call_234 : decode cX3_call 234 = .ok (.iload 6, 2) := dk_21 6 (dk_at dksX3_call_5 18 rfl rfl)
theorem dX3_call_236 : decode cX3_call 236 = .ok (.ifCond .lt 7, 3) := dk_155 0 7 (dk_at dksX3_call_5 20 rfl rfl)
theorem dX3_call_239 : decode cX3_call 239 = .ok (.lconst 1, 1) := dk_10 (dk_at dksX3_call_5 23 rfl rfl)
theorem dX3_call_240 : decode cX3_call 240 = .ok (.goto 4, 3) := dk_167 0 4 (dk_at dksX3_call_6 0 rfl rfl)
theorem dX3_call_243 : decode cX3_call 243 = .ok (.lconst 0, 1) := dk_9 (dk_at dksX3_call_6 3 rfl rfl)
theorem dX3_call_244 : decode cX3_call 244 = .ok (.lreturn, 1) := dk_173 (dk_at dksX3_call_6 4 rfl rfl)
theorem dX3_call_245 : decode cX3_call 245 = .ok (.aload_n 1, 1) := dk_43 (dk_at dksX3_call_6 5 rfl rfl)
theorem dX3_call_246 : decode cX3_call 246 = .ok (.iload_n 3, 1) := dk_29 (dk_at dksX3_call_6 6 rfl rfl)
theorem dX3_call_247 : decode cX3_call 247 = .ok (.invokevirtual 102, 3) := dk_182 0 102 (dk_at dksX3_call_6 7 rfl rfl)
theorem dX3_call_250 : decode cX3_call 250 = .ok (.i2l, 1) := dk_133 (dk_at dksX3_call_6 10 rfl rfl)
theorem dX3_call_251 : decode cX3_call 251 = .ok (.lreturn, 1) := dk_173 (dk_at dksX3_call_6 11 rfl rfl)
theorem dX3_call_252 : decode cX3_call 252 = .ok (.aload_n 1, 1) := dk_43 (dk_at dksX3_call_6 12 rfl rfl)
theorem dX3_call_253 : decode cX3_call 253 = .ok (.iload_n 3, 1) := dk_29 (dk_at dksX3_call_6 13 rfl rfl)
theorem dX3_call_254 : decode cX3_call 254 = .ok (.invokevirtual 105, 3) := dk_182 0 105 (dk_at dksX3_call_6 14 rfl rfl)
theorem dX3_call_257 : decode cX3_call 257 = .ok (.i2l, 1) := dk_133 (dk_at dksX3_call_6 17 rfl rfl)
theorem dX3_call_258 : decode cX3_call 258 = .ok (.lreturn, 1) := dk_173 (dk_at dksX3_call_6 18 rfl rfl)
theorem dX3_call_259 : decode cX3_call 259 = .ok (.aload_n 1, 1) := dk_43 (dk_at dksX3_call_6 19 rfl rfl)
theorem dX3_call_260 : decode cX3_call 260 = .ok (.iconst 0, 1) := dk_3 (dk_at dksX3_call_6 20 rfl rfl)
theorem dX3_call_261 : decode cX3_call 261 = .ok (.iload 5, 2) := dk_21 5 (dk_at dksX3_call_6 21 rfl rfl)
theorem dX3_call_263 : decode cX3_call 263 = .ok (.invokevirtual 32, 3) := dk_182 0 32 (dk_at dksX3_call_7 0 rfl rfl)
theorem dX3_call_266 : decode cX3_call 266 = .ok (.iload 5, 2) := dk_21 5 (dk_at dksX3_call_7 3 rfl rfl)
theorem dX3_call_268 : decode cX3_call 268 = .ok (.i2l, 1) := dk_133 (dk_at dksX3_call_7 5 rfl rfl)
theorem dX3_call_269 : decode cX3_call 269 = .ok (.lreturn, 1) := dk_173 (dk_at dksX3_call_7 6 rfl rfl)
theorem dX3_call_270 : decode cX3_call 270 = .ok (.aload_n 1, 1) := dk_43 (dk_at dksX3_call_7 7 rfl rfl)
theorem dX3_call_271 : decode cX3_call 271 = .ok (.iload_n 3, 1) := dk_29 (dk_at dksX3_call_7 8 rfl rfl)
theorem dX3_call_272 : decode cX3_call 272 = .ok (.iload 4, 2) := dk_21 4 (dk_at dksX3_call_7 9 rfl rfl)
theorem dX3_call_274 : decode cX3_call 274 = .ok (.invokestatic 108, 3) := dk_184 0 108 (dk_at dksX3_call_7 11 rfl rfl)
theorem dX3_call_277 : decode cX3_call 277 = .ok (.i2l, 1) := dk_133 (dk_at dksX3_call_7 14 rfl rfl)
theorem dX3_call_278 : decode cX3_call 278 = .ok (.lreturn, 1) := dk_173 (dk_at dksX3_call_7 15 rfl rfl)
theorem dX3_call_279 : decode cX3_call 279 = .ok (.aload_n 1, 1) := dk_43 (dk_at dksX3_call_7 16 rfl rfl)
theorem dX3_call_280 : decode cX3_call 280 = .ok (.iload_n 3, 1) := dk_29 (dk_at dksX3_call_7 17 rfl rfl)
theorem dX3_call_281 : decode cX3_call 281 = .ok (.iload 4, 2) := dk_21 4 (dk_at dksX3_call_7 18 rfl rfl)
theorem dX3_call_283 : decode cX3_call 283 = .ok (.invokestatic 112, 3) := dk_184 0 112 (dk_at dksX3_call_7 20 rfl rfl)
theorem dX3_call_286 : decode cX3_call 286 = .ok (.i2l, 1) := dk_133 (dk_at dksX3_call_7 23 rfl rfl)
theorem dX3_call_287 : decode cX3_call 287 = .ok (.lreturn, 1) := dk_173 (dk_at dksX3_call_8 0 rfl rfl)
theorem dX3_call_288 : decode cX3_call 288 = .ok (.aload_n 1, 1) := dk_43 (dk_at dksX3_call_8 1 rfl rfl)
theorem dX3_call_289 : decode cX3_call 289 = .ok (.iload_n 3, 1) := dk_29 (dk_at dksX3_call_8 2 rfl rfl)
theorem dX3_call_290 : decode cX3_call 290 = .ok (.invokestatic 115, 3) := dk_184 0 115 (dk_at dksX3_call_8 3 rfl rfl)
theorem dX3_call_293 : decode cX3_call 293 = .ok (.i2l, 1) := dk_133 (dk_at dksX3_call_8 6 rfl rfl)
theorem dX3_call_294 : decode cX3_call 294 = .ok (.lreturn, 1) := dk_173 (dk_at dksX3_call_8 7 rfl rfl)
theorem dX3_call_295 : decode cX3_call 295 = .ok (.aload_n 1, 1) := dk_43 (dk_at dksX3_call_8 8 rfl rfl)
theorem dX3_call_296 : decode cX3_call 296 = .ok (.iload_n 2, 1) := dk_28 (dk_at dksX3_call_8 9 rfl rfl)
theorem dX3_call_297 : decode cX3_call 297 = .ok (.bipush 22, 2) := dk_16 22 (dk_at dksX3_call_8 10 rfl rfl)
theorem dX3_call_299 : decode cX3_call 299 = .ok (.if_icmp .ne 7, 3) := dk_160 0 7 (dk_at dksX3_call_8 12 rfl rfl)
theorem dX3_call_302 : decode cX3_call 302 = .ok (.iconst 1, 1) := dk_4 (dk_at dksX3_call_8 15 rfl rfl)
theorem dX3_call_303 : decode cX3_call 303 = .ok (.goto 4, 3) := dk_167 0 4 (dk_at dksX3_call_8 16 rfl rfl)
theorem dX3_call_306 : decode cX3_call 306 = .ok (.iconst 0, 1) := dk_3 (dk_at dksX3_call_8 19 rfl rfl)
theorem dX3_call_307 : decode cX3_call 307 = .ok (.invokestatic 119, 3) := dk_184 0 119 (dk_at dksX3_call_8 20 rfl rfl)
theorem dX3_call_310 : decode cX3_call 310 = .ok (.i2l, 1) := dk_133 (dk_at dksX3_call_8 23 rfl rfl)
theorem dX3_call_311 : decode cX3_call 311 = .ok (.lreturn, 1) := dk_173 (dk_at dksX3_call_9 0 rfl rfl)
theorem dX3_call_312 : decode cX3_call 312 = .ok (.aload_n 1, 1) := dk_43 (dk_at dksX3_call_9 1 rfl rfl)
theorem dX3_call_313 : decode cX3_call 313 = .ok (.invokestatic 123, 3) := dk_184 0 123 (dk_at dksX3_call_9 2 rfl rfl)
theorem dX3_call_316 : decode cX3_call 316 = .ok (.i2l, 1) := dk_133 (dk_at dksX3_call_9 5 rfl rfl)
theorem dX3_call_317 : decode cX3_call 317 = .ok (.lreturn, 1) := dk_173 (dk_at dksX3_call_9 6 rfl rfl)
theorem dX3_call_318 : decode cX3_call 318 = .ok (.iload 5, 2) := dk_21 5 (dk_at dksX3_call_9 7 rfl rfl)
theorem dX3_call_320 : decode cX3_call 320 = .ok (.i2l, 1) := dk_133 (dk_at dksX3_call_9 9 rfl rfl)
theorem dX3_call_321 : decode cX3_call 321 = .ok (.lreturn, 1) := dk_173 (dk_at dksX3_call_9 10 rfl rfl)
theorem dX3_call_322 : decode cX3_call 322 = .ok (.aload_n 1, 1) := dk_43 (dk_at dksX3_call_9 11 rfl rfl)
theorem dX3_call_323 : decode cX3_call 323 = .ok (.invokestatic 127, 3) := dk_184 0 127 (dk_at dksX3_call_9 12 rfl rfl)
theorem dX3_call_326 : decode cX3_call 326 = .ok (.i2l, 1) := dk_133 (dk_at dksX3_call_9 15 rfl rfl)
theorem dX3_call_327 : decode cX3_call 327 = .ok (.lreturn, 1) := dk_173 (dk_at dksX3_call_9 16 rfl rfl)
theorem dX3_call_328 : decode cX3_call 328 = .ok (.aload_n 1, 1) := dk_43 (dk_at dksX3_call_9 17 rfl rfl)
theorem dX3_call_329 : decode cX3_call 329 = .ok (.iload_n 2, 1) := dk_28 (dk_at dksX3_call_9 18 rfl rfl)
theorem dX3_call_330 : decode cX3_call 330 = .ok (.iload_n 3, 1) := dk_29 (dk_at dksX3_call_9 19 rfl rfl)
theorem dX3_call_331 : decode cX3_call 331 = .ok (.invokestatic 130, 3) := dk_184 0 130 (dk_at dksX3_call_9 20 rfl rfl)
theorem dX3_call_334 : decode cX3_call 334 = .ok (.lreturn, 1) := dk_173 (dk_at dksX3_call_9 23 rfl rfl)
theorem dX3_call_335 : decode cX3_call 335 = .ok (.iconst 0, 1) := dk_3 (dk_at dksX3_call_10 0 rfl rfl)
theorem dX3_call_336 : decode cX3_call 336 = .ok (.iload_n 3, 1) := dk_29 (dk_at dksX3_call_10 1 rfl rfl)
theorem dX3_call_337 : decode cX3_call 337 = .ok (.if_icmp .gt 20, 3) := dk_163 0 20 (dk_at dksX3_call_10 2 rfl rfl)
theorem dX3_call_340 : decode cX3_call 340 = .ok (.iload_n 3, 1) := dk_29 (dk_at dksX3_call_10 5 rfl rfl)
theorem dX3_call_341 : decode cX3_call 341 = .ok (.iload 4, 2) := dk_21 4 (dk_at dksX3_call_10 6 rfl rfl)
theorem dX3_call_343 : decode cX3_call 343 = .ok (.if_icmp .gt 14, 3) := dk_163 0 14 (dk_at dksX3_call_10 8 rfl rfl)
theorem dX3_call_346 : decode cX3_call 346 = .ok (.iload 4, 2) := dk_21 4 (dk_at dksX3_call_10 11 rfl rfl)
theorem dX3_call_348 : decode cX3_call 348 = .ok (.iload 5, 2) := dk_21 5 (dk_at dksX3_call_10 13 rfl rfl)
theorem dX3_call_350 : decode cX3_call 350 = .ok (.if_icmp .gt 7, 3) := dk_163 0 7 (dk_at dksX3_call_10 15 rfl rfl)
theorem dX3_call_353 : decode cX3_call 353 = .ok (.iconst 1, 1) := dk_4 (dk_at dksX3_call_10 18 rfl rfl)
theorem dX3_call_354 : decode cX3_call 354 = .ok (.goto 4, 3) := dk_167 0 4 (dk_at dksX3_call_10 19 rfl rfl)
theorem dX3_call_357 : decode cX3_call 357 = .ok (.iconst 0, 1) := dk_3 (dk_at dksX3_call_10 22 rfl rfl)
theorem dX3_call_358 : decode cX3_call 358 = .ok (.invokestatic 36, 3) := dk_184 0 36 (dk_at dksX3_call_11 0 rfl rfl)
theorem dX3_call_361 : decode cX3_call 361 = .ok (.aload_n 1, 1) := dk_43 (dk_at dksX3_call_11 3 rfl rfl)
theorem dX3_call_362 : decode cX3_call 362 = .ok (.iload_n 3, 1) := dk_29 (dk_at dksX3_call_11 4 rfl rfl)
theorem dX3_call_363 : decode cX3_call 363 = .ok (.iload 4, 2) := dk_21 4 (dk_at dksX3_call_11 5 rfl rfl)
theorem dX3_call_365 : decode cX3_call 365 = .ok (.iload_n 3, 1) := dk_29 (dk_at dksX3_call_11 7 rfl rfl)
theorem dX3_call_366 : decode cX3_call 366 = .ok (.isub, 1) := dk_100 (dk_at dksX3_call_11 8 rfl rfl)
theorem dX3_call_367 : decode cX3_call 367 = .ok (.invokevirtual 32, 3) := dk_182 0 32 (dk_at dksX3_call_11 9 rfl rfl)
theorem dX3_call_370 : decode cX3_call 370 = .ok (.iload 4, 2) := dk_21 4 (dk_at dksX3_call_11 12 rfl rfl)
theorem dX3_call_372 : decode cX3_call 372 = .ok (.iload_n 3, 1) := dk_29 (dk_at dksX3_call_11 14 rfl rfl)
theorem dX3_call_373 : decode cX3_call 373 = .ok (.isub, 1) := dk_100 (dk_at dksX3_call_11 15 rfl rfl)
theorem dX3_call_374 : decode cX3_call 374 = .ok (.i2l, 1) := dk_133 (dk_at dksX3_call_11 16 rfl rfl)
theorem dX3_call_375 : decode cX3_call 375 = .ok (.lreturn, 1) := dk_173 (dk_at dksX3_call_11 17 rfl rfl)
theorem dX3_call_376 : decode cX3_call 376 = .ok (.aload_n 0, 1) := dk_42 (dk_at dksX3_call_11 18 rfl rfl)
theorem dX3_call_377 : decode cX3_call 377 = .ok (.aload_n 1, 1) := dk_43 (dk_at dksX3_call_11 19 rfl rfl)
theorem dX3_call_378 : decode cX3_call 378 = .ok (.iload_n 2, 1) := dk_28 (dk_at dksX3_call_11 20 rfl rfl)
theorem dX3_call_379 : decode cX3_call 379 = .ok (.iload_n 3, 1) := dk_29 (dk_at dksX3_call_11 21 rfl rfl)
theorem dX3_call_380 : decode cX3_call 380 = .ok (.iload 4, 2) := dk_21 4 (dk_at dksX3_call_11 22 rfl rfl)
theorem dX3_call_382 : decode cX3_call 382 = .ok (.invokevirtual 134, 3) := dk_182 0 134 (dk_at dksX3_call_12 0 rfl rfl)
theorem dX3_call_385 : decode cX3_call 385 = .ok (.lreturn, 1) := dk_173 (dk_at dksX3_call_12 3 rfl rfl)
abbrev cX3_at : ByteArray := prog_14_method_2_code
def yX3_at : MethodName := ⟨RX3, "at", "(Z)V"⟩
theorem dX3_at_0 : decode cX3_at 0 = .ok (.iload_n 0, 1) := by decide +kernel
theorem dX3_at_1 : decode cX3_at 1 = .ok (.invokestatic 18, 3) := by decide +kernel
theorem dX3_at_4 : decode cX3_at 4 = .ok (.return_, 1) := by decide +kernel
abbrev cX3_place : ByteArray := prog_14_method_23_code
def yX3_place : MethodName := ⟨RX3, "place", "(LLibraryDesk$Places;III)J"⟩
def dkwX3_place_1 : List UInt8 := [28, 4, 182, 0, 32, 21, 4, 133, 173]
abbrev dktX3_place_1 : List UInt8 := dkwX3_place_1 ++ []
def dkwX3_place_0 : List UInt8 := [42, 28, 182, 0, 28, 54, 4, 27, 6, 160, 0, 9, 42, 28, 29, 182, 0, 46, 27, 7, 160, 0, 9, 42]
abbrev dktX3_place_0 : List UInt8 := dkwX3_place_0 ++ dktX3_place_1
theorem dksX3_place_0 : cX3_place.data.toList.drop 0 = dktX3_place_0 := by decide +kernel
theorem dksX3_place_1 : cX3_place.data.toList.drop 24 = dktX3_place_1 := dk_seg dksX3_place_0 24 rfl rfl
theorem dX3_place_0 : decode cX3_place 0 = .ok (.aload_n 0, 1) := dk_42 (dk_at dksX3_place_0 0 rfl rfl)
theorem dX3_place_1 : decode cX3_place 1 = .ok (.iload_n 2, 1) := dk_28 (dk_at dksX3_place_0 1 rfl rfl)
theorem dX3_place_2 : decode cX3_place 2 = .ok (.invokevirtual 28, 3) := dk_182 0 28 (dk_at dksX3_place_0 2 rfl rfl)
theorem dX3_place_5 : decode cX3_place 5 = .ok (.istore 4, 2) := dk_54 4 (dk_at dksX3_place_0 5 rfl rfl)
theorem dX3_place_7 : decode cX3_place 7 = .ok (.iload_n 1, 1) := dk_27 (dk_at dksX3_place_0 7 rfl rfl)
theorem dX3_place_8 : decode cX3_place 8 = .ok (.iconst 3, 1) := dk_6 (dk_at dksX3_place_0 8 rfl rfl)
theorem dX3_place_9 : decode cX3_place 9 = .ok (.if_icmp .ne 9, 3) := dk_160 0 9 (dk_at dksX3_place_0 9 rfl rfl)
theorem dX3_place_12 : decode cX3_place 12 = .ok (.aload_n 0, 1) := dk_42 (dk_at dksX3_place_0 12 rfl rfl)
theorem dX3_place_13 : decode cX3_place 13 = .ok (.iload_n 2, 1) := dk_28 (dk_at dksX3_place_0 13 rfl rfl)
theorem dX3_place_14 : decode cX3_place 14 = .ok (.iload_n 3, 1) := dk_29 (dk_at dksX3_place_0 14 rfl rfl)
theorem dX3_place_15 : decode cX3_place 15 = .ok (.invokevirtual 46, 3) := dk_182 0 46 (dk_at dksX3_place_0 15 rfl rfl)
theorem dX3_place_18 : decode cX3_place 18 = .ok (.iload_n 1, 1) := dk_27 (dk_at dksX3_place_0 18 rfl rfl)
theorem dX3_place_19 : decode cX3_place 19 = .ok (.iconst 4, 1) := dk_7 (dk_at dksX3_place_0 19 rfl rfl)
theorem dX3_place_20 : decode cX3_place 20 = .ok (.if_icmp .ne 9, 3) := dk_160 0 9 (dk_at dksX3_place_0 20 rfl rfl)
theorem dX3_place_23 : decode cX3_place 23 = .ok (.aload_n 0, 1) := dk_42 (dk_at dksX3_place_0 23 rfl rfl)
theorem dX3_place_24 : decode cX3_place 24 = .ok (.iload_n 2, 1) := dk_28 (dk_at dksX3_place_1 0 rfl rfl)
theorem dX3_place_25 : decode cX3_place 25 = .ok (.iconst 1, 1) := dk_4 (dk_at dksX3_place_1 1 rfl rfl)
theorem dX3_place_26 : decode cX3_place 26 = .ok (.invokevirtual 32, 3) := dk_182 0 32 (dk_at dksX3_place_1 2 rfl rfl)
theorem dX3_place_29 : decode cX3_place 29 = .ok (.iload 4, 2) := dk_21 4 (dk_at dksX3_place_1 5 rfl rfl)
theorem dX3_place_31 : decode cX3_place 31 = .ok (.i2l, 1) := dk_133 (dk_at dksX3_place_1 7 rfl rfl)
theorem dX3_place_32 : decode cX3_place 32 = .ok (.lreturn, 1) := dk_173 (dk_at dksX3_place_1 8 rfl rfl)
abbrev cX3_replace : ByteArray := prog_14_method_14_code
def yX3_replace : MethodName := ⟨RX3, "replace", "(LLibraryDesk$Places;II)I"⟩
def dkwX3_replace_1 : List UInt8 := [167, 0, 13, 42, 21, 4, 28, 182, 0, 46, 132, 3, 1, 132, 4, 1, 167, 255, 221, 29, 172]
abbrev dktX3_replace_1 : List UInt8 := dkwX3_replace_1 ++ []
def dkwX3_replace_0 : List UInt8 := [3, 62, 3, 54, 4, 21, 4, 42, 182, 0, 22, 162, 0, 32, 42, 21, 4, 182, 0, 28, 27, 159, 0, 6]
abbrev dktX3_replace_0 : List UInt8 := dkwX3_replace_0 ++ dktX3_replace_1
theorem dksX3_replace_0 : cX3_replace.data.toList.drop 0 = dktX3_replace_0 := by decide +kernel
theorem dksX3_replace_1 : cX3_replace.data.toList.drop 24 = dktX3_replace_1 := dk_seg dksX3_replace_0 24 rfl rfl
theorem dX3_replace_0 : decode cX3_replace 0 = .ok (.iconst 0, 1) := dk_3 (dk_at dksX3_replace_0 0 rfl rfl)
theorem dX3_replace_1 : decode cX3_replace 1 = .ok (.istore_n 3, 1) := dk_62 (dk_at dksX3_replace_0 1 rfl rfl)
theorem dX3_replace_2 : decode cX3_replace 2 = .ok (.iconst 0, 1) := dk_3 (dk_at dksX3_replace_0 2 rfl rfl)
theorem dX3_replace_3 : decode cX3_replace 3 = .ok (.istore 4, 2) := dk_54 4 (dk_at dksX3_replace_0 3 rfl rfl)
theorem dX3_replace_5 : decode cX3_replace 5 = .ok (.iload 4, 2) := dk_21 4 (dk_at dksX3_replace_0 5 rfl rfl)
theorem dX3_replace_7 : decode cX3_replace 7 = .ok (.aload_n 0, 1) := dk_42 (dk_at dksX3_replace_0 7 rfl rfl)
theorem dX3_replace_8 : decode cX3_replace 8 = .ok (.invokevirtual 22, 3) := dk_182 0 22 (dk_at dksX3_replace_0 8 rfl rfl)
theorem dX3_replace_11 : decode cX3_replace 11 = .ok (.if_icmp .ge 32, 3) := dk_162 0 32 (dk_at dksX3_replace_0 11 rfl rfl)
theorem dX3_replace_14 : decode cX3_replace 14 = .ok (.aload_n 0, 1) := dk_42 (dk_at dksX3_replace_0 14 rfl rfl)
theorem dX3_replace_15 : decode cX3_replace 15 = .ok (.iload 4, 2) := dk_21 4 (dk_at dksX3_replace_0 15 rfl rfl)
theorem dX3_replace_17 : decode cX3_replace 17 = .ok (.invokevirtual 28, 3) := dk_182 0 28 (dk_at dksX3_replace_0 17 rfl rfl)
theorem dX3_replace_20 : decode cX3_replace 20 = .ok (.iload_n 1, 1) := dk_27 (dk_at dksX3_replace_0 20 rfl rfl)
theorem dX3_replace_21 : decode cX3_replace 21 = .ok (.if_icmp .eq 6, 3) := dk_159 0 6 (dk_at dksX3_replace_0 21 rfl rfl)
theorem dX3_replace_24 : decode cX3_replace 24 = .ok (.goto 13, 3) := dk_167 0 13 (dk_at dksX3_replace_1 0 rfl rfl)
theorem dX3_replace_27 : decode cX3_replace 27 = .ok (.aload_n 0, 1) := dk_42 (dk_at dksX3_replace_1 3 rfl rfl)
theorem dX3_replace_28 : decode cX3_replace 28 = .ok (.iload 4, 2) := dk_21 4 (dk_at dksX3_replace_1 4 rfl rfl)
theorem dX3_replace_30 : decode cX3_replace 30 = .ok (.iload_n 2, 1) := dk_28 (dk_at dksX3_replace_1 6 rfl rfl)
theorem dX3_replace_31 : decode cX3_replace 31 = .ok (.invokevirtual 46, 3) := dk_182 0 46 (dk_at dksX3_replace_1 7 rfl rfl)
theorem dX3_replace_34 : decode cX3_replace 34 = .ok (.iinc 3 1, 3) := dk_132 3 1 (dk_at dksX3_replace_1 10 rfl rfl)
theorem dX3_replace_37 : decode cX3_replace 37 = .ok (.iinc 4 1, 3) := dk_132 4 1 (dk_at dksX3_replace_1 13 rfl rfl)
theorem dX3_replace_40 : decode cX3_replace 40 = .ok (.goto (-35), 3) := dk_167 255 221 (dk_at dksX3_replace_1 16 rfl rfl)
theorem dX3_replace_43 : decode cX3_replace 43 = .ok (.iload_n 3, 1) := dk_29 (dk_at dksX3_replace_1 19 rfl rfl)
theorem dX3_replace_44 : decode cX3_replace 44 = .ok (.ireturn, 1) := dk_172 (dk_at dksX3_replace_1 20 rfl rfl)
abbrev cX3_halving : ByteArray := prog_14_method_15_code
def yX3_halving : MethodName := ⟨RX3, "halving", "(LLibraryDesk$Places;II)I"⟩
def dkwX3_halving_2 : List UInt8 := [156, 0, 11, 21, 5, 4, 96, 62, 167, 0, 9, 21, 5, 4, 100, 54, 4, 167, 255, 202, 2, 29, 100, 172]
abbrev dktX3_halving_2 : List UInt8 := dkwX3_halving_2 ++ []
def dkwX3_halving_1 : List UInt8 := [28, 42, 21, 5, 182, 0, 28, 27, 184, 0, 69, 54, 6, 21, 6, 154, 0, 6, 21, 5, 172, 21, 6]
abbrev dktX3_halving_1 : List UInt8 := dkwX3_halving_1 ++ dktX3_halving_2
def dkwX3_halving_0 : List UInt8 := [3, 62, 42, 182, 0, 22, 4, 100, 54, 4, 29, 21, 4, 163, 0, 54, 29, 21, 4, 96, 5, 108, 54, 5]
abbrev dktX3_halving_0 : List UInt8 := dkwX3_halving_0 ++ dktX3_halving_1
theorem dksX3_halving_0 : cX3_halving.data.toList.drop 0 = dktX3_halving_0 := by decide +kernel
theorem dksX3_halving_1 : cX3_halving.data.toList.drop 24 = dktX3_halving_1 := dk_seg dksX3_halving_0 24 rfl rfl
theorem dksX3_halving_2 : cX3_halving.data.toList.drop 47 = dktX3_halving_2 := dk_seg dksX3_halving_1 23 rfl rfl
theorem dX3_halving_0 : decode cX3_halving 0 = .ok (.iconst 0, 1) := dk_3 (dk_at dksX3_halving_0 0 rfl rfl)
theorem dX3_halving_1 : decode cX3_halving 1 = .ok (.istore_n 3, 1) := dk_62 (dk_at dksX3_halving_0 1 rfl rfl)
theorem dX3_halving_2 : decode cX3_halving 2 = .ok (.aload_n 0, 1) := dk_42 (dk_at dksX3_halving_0 2 rfl rfl)
theorem dX3_halving_3 : decode cX3_halving 3 = .ok (.invokevirtual 22, 3) := dk_182 0 22 (dk_at dksX3_halving_0 3 rfl rfl)
theorem dX3_halving_6 : decode cX3_halving 6 = .ok (.iconst 1, 1) := dk_4 (dk_at dksX3_halving_0 6 rfl rfl)
theorem dX3_halving_7 : decode cX3_halving 7 = .ok (.isub, 1) := dk_100 (dk_at dksX3_halving_0 7 rfl rfl)
theorem dX3_halving_8 : decode cX3_halving 8 = .ok (.istore 4, 2) := dk_54 4 (dk_at dksX3_halving_0 8 rfl rfl)
theorem dX3_halving_10 : decode cX3_halving 10 = .ok (.iload_n 3, 1) := dk_29 (dk_at dksX3_halving_0 10 rfl rfl)
theorem dX3_halving_11 : decode cX3_halving 11 = .ok (.iload 4, 2) := dk_21 4 (dk_at dksX3_halving_0 11 rfl rfl)
theorem dX3_halving_13 : decode cX3_halving 13 = .ok (.if_icmp .gt 54, 3) := dk_163 0 54 (dk_at dksX3_halving_0 13 rfl rfl)
theorem dX3_halving_16 : decode cX3_halving 16 = .ok (.iload_n 3, 1) := dk_29 (dk_at dksX3_halving_0 16 rfl rfl)
theorem dX3_halving_17 : decode cX3_halving 17 = .ok (.iload 4, 2) := dk_21 4 (dk_at dksX3_halving_0 17 rfl rfl)
theorem dX3_halving_19 : decode cX3_halving 19 = .ok (.iadd, 1) := dk_96 (dk_at dksX3_halving_0 19 rfl rfl)
theorem dX3_halving_20 : decode cX3_halving 20 = .ok (.iconst 2, 1) := dk_5 (dk_at dksX3_halving_0 20 rfl rfl)
theorem dX3_halving_21 : decode cX3_halving 21 = .ok (.idiv, 1) := dk_108 (dk_at dksX3_halving_0 21 rfl rfl)
theorem dX3_halving_22 : decode cX3_halving 22 = .ok (.istore 5, 2) := dk_54 5 (dk_at dksX3_halving_0 22 rfl rfl)
theorem dX3_halving_24 : decode cX3_halving 24 = .ok (.iload_n 2, 1) := dk_28 (dk_at dksX3_halving_1 0 rfl rfl)
theorem dX3_halving_25 : decode cX3_halving 25 = .ok (.aload_n 0, 1) := dk_42 (dk_at dksX3_halving_1 1 rfl rfl)
theorem dX3_halving_26 : decode cX3_halving 26 = .ok (.iload 5, 2) := dk_21 5 (dk_at dksX3_halving_1 2 rfl rfl)
theorem dX3_halving_28 : decode cX3_halving 28 = .ok (.invokevirtual 28, 3) := dk_182 0 28 (dk_at dksX3_halving_1 4 rfl rfl)
theorem dX3_halving_31 : decode cX3_halving 31 = .ok (.iload_n 1, 1) := dk_27 (dk_at dksX3_halving_1 7 rfl rfl)
theorem dX3_halving_32 : decode cX3_halving 32 = .ok (.invokestatic 69, 3) := dk_184 0 69 (dk_at dksX3_halving_1 8 rfl rfl)
theorem dX3_halving_35 : decode cX3_halving 35 = .ok (.istore 6, 2) := dk_54 6 (dk_at dksX3_halving_1 11 rfl rfl)
theorem dX3_halving_37 : decode cX3_halving 37 = .ok (.iload 6, 2) := dk_21 6 (dk_at dksX3_halving_1 13 rfl rfl)
theorem dX3_halving_39 : decode cX3_halving 39 = .ok (.ifCond .ne 6, 3) := dk_154 0 6 (dk_at dksX3_halving_1 15 rfl rfl)
theorem dX3_halving_42 : decode cX3_halving 42 = .ok (.iload 5, 2) := dk_21 5 (dk_at dksX3_halving_1 18 rfl rfl)
theorem dX3_halving_44 : decode cX3_halving 44 = .ok (.ireturn, 1) := dk_172 (dk_at dksX3_halving_1 20 rfl rfl)
theorem dX3_halving_45 : decode cX3_halving 45 = .ok (.iload 6, 2) := dk_21 6 (dk_at dksX3_halving_1 21 rfl rfl)
theorem dX3_halving_47 : decode cX3_halving 47 = .ok (.ifCond .ge 11, 3) := dk_156 0 11 (dk_at dksX3_halving_2 0 rfl rfl)
theorem dX3_halving_50 : decode cX3_halving 50 = .ok (.iload 5, 2) := dk_21 5 (dk_at dksX3_halving_2 3 rfl rfl)
theorem dX3_halving_52 : decode cX3_halving 52 = .ok (.iconst 1, 1) := dk_4 (dk_at dksX3_halving_2 5 rfl rfl)
theorem dX3_halving_53 : decode cX3_halving 53 = .ok (.iadd, 1) := dk_96 (dk_at dksX3_halving_2 6 rfl rfl)
theorem dX3_halving_54 : decode cX3_halving 54 = .ok (.istore_n 3, 1) := dk_62 (dk_at dksX3_halving_2 7 rfl rfl)
theorem dX3_halving_55 : decode cX3_halving 55 = .ok (.goto 9, 3) := dk_167 0 9 (dk_at dksX3_halving_2 8 rfl rfl)
theorem dX3_halving_58 : decode cX3_halving 58 = .ok (.iload 5, 2) := dk_21 5 (dk_at dksX3_halving_2 11 rfl rfl)
theorem dX3_halving_60 : decode cX3_halving 60 = .ok (.iconst 1, 1) := dk_4 (dk_at dksX3_halving_2 13 rfl rfl)
theorem dX3_halving_61 : decode cX3_halving 61 = .ok (.isub, 1) := dk_100 (dk_at dksX3_halving_2 14 rfl rfl)
theorem dX3_halving_62 : decode cX3_halving 62 = .ok (.istore 4, 2) := dk_54 4 (dk_at dksX3_halving_2 15 rfl rfl)
theorem dX3_halving_64 : decode cX3_halving 64 = .ok (.goto (-54), 3) := dk_167 255 202 (dk_at dksX3_halving_2 17 rfl rfl)
theorem dX3_halving_67 : decode cX3_halving 67 = .ok (.iconst (-1), 1) := dk_2 (dk_at dksX3_halving_2 20 rfl rfl)
theorem dX3_halving_68 : decode cX3_halving 68 = .ok (.iload_n 3, 1) := dk_29 (dk_at dksX3_halving_2 21 rfl rfl)
theorem dX3_halving_69 : decode cX3_halving 69 = .ok (.isub, 1) := dk_100 (dk_at dksX3_halving_2 22 rfl rfl)
theorem dX3_halving_70 : decode cX3_halving 70 = .ok (.ireturn, 1) := dk_172 (dk_at dksX3_halving_2 23 rfl rfl)
abbrev cX3_count : ByteArray := prog_14_method_16_code
def yX3_count : MethodName := ⟨RX3, "count", "(LLibraryDesk$Places;I)I"⟩
def dkwX3_count_1 : List UInt8 := [132, 3, 1, 167, 255, 233, 28, 172]
abbrev dktX3_count_1 : List UInt8 := dkwX3_count_1 ++ []
def dkwX3_count_0 : List UInt8 := [3, 61, 3, 62, 29, 42, 182, 0, 22, 162, 0, 21, 42, 29, 182, 0, 28, 27, 160, 0, 6, 132, 2, 1]
abbrev dktX3_count_0 : List UInt8 := dkwX3_count_0 ++ dktX3_count_1
theorem dksX3_count_0 : cX3_count.data.toList.drop 0 = dktX3_count_0 := by decide +kernel
theorem dksX3_count_1 : cX3_count.data.toList.drop 24 = dktX3_count_1 := dk_seg dksX3_count_0 24 rfl rfl
theorem dX3_count_0 : decode cX3_count 0 = .ok (.iconst 0, 1) := dk_3 (dk_at dksX3_count_0 0 rfl rfl)
theorem dX3_count_1 : decode cX3_count 1 = .ok (.istore_n 2, 1) := dk_61 (dk_at dksX3_count_0 1 rfl rfl)
theorem dX3_count_2 : decode cX3_count 2 = .ok (.iconst 0, 1) := dk_3 (dk_at dksX3_count_0 2 rfl rfl)
theorem dX3_count_3 : decode cX3_count 3 = .ok (.istore_n 3, 1) := dk_62 (dk_at dksX3_count_0 3 rfl rfl)
theorem dX3_count_4 : decode cX3_count 4 = .ok (.iload_n 3, 1) := dk_29 (dk_at dksX3_count_0 4 rfl rfl)
theorem dX3_count_5 : decode cX3_count 5 = .ok (.aload_n 0, 1) := dk_42 (dk_at dksX3_count_0 5 rfl rfl)
theorem dX3_count_6 : decode cX3_count 6 = .ok (.invokevirtual 22, 3) := dk_182 0 22 (dk_at dksX3_count_0 6 rfl rfl)
theorem dX3_count_9 : decode cX3_count 9 = .ok (.if_icmp .ge 21, 3) := dk_162 0 21 (dk_at dksX3_count_0 9 rfl rfl)
theorem dX3_count_12 : decode cX3_count 12 = .ok (.aload_n 0, 1) := dk_42 (dk_at dksX3_count_0 12 rfl rfl)
theorem dX3_count_13 : decode cX3_count 13 = .ok (.iload_n 3, 1) := dk_29 (dk_at dksX3_count_0 13 rfl rfl)
theorem dX3_count_14 : decode cX3_count 14 = .ok (.invokevirtual 28, 3) := dk_182 0 28 (dk_at dksX3_count_0 14 rfl rfl)
theorem dX3_count_17 : decode cX3_count 17 = .ok (.iload_n 1, 1) := dk_27 (dk_at dksX3_count_0 17 rfl rfl)
theorem dX3_count_18 : decode cX3_count 18 = .ok (.if_icmp .ne 6, 3) := dk_160 0 6 (dk_at dksX3_count_0 18 rfl rfl)
theorem dX3_count_21 : decode cX3_count 21 = .ok (.iinc 2 1, 3) := dk_132 2 1 (dk_at dksX3_count_0 21 rfl rfl)
theorem dX3_count_24 : decode cX3_count 24 = .ok (.iinc 3 1, 3) := dk_132 3 1 (dk_at dksX3_count_1 0 rfl rfl)
theorem dX3_count_27 : decode cX3_count 27 = .ok (.goto (-23), 3) := dk_167 255 233 (dk_at dksX3_count_1 3 rfl rfl)
theorem dX3_count_30 : decode cX3_count 30 = .ok (.iload_n 2, 1) := dk_28 (dk_at dksX3_count_1 6 rfl rfl)
theorem dX3_count_31 : decode cX3_count 31 = .ok (.ireturn, 1) := dk_172 (dk_at dksX3_count_1 7 rfl rfl)
abbrev cX3_most : ByteArray := prog_14_method_17_code
def yX3_most : MethodName := ⟨RX3, "most", "(LLibraryDesk$Places;Z)I"⟩
def dkwX3_most_2 : List UInt8 := [29, 182, 0, 28, 28, 162, 0, 9, 42, 29, 182, 0, 28, 61, 132, 3, 1, 167, 255, 214, 28, 172]
abbrev dktX3_most_2 : List UInt8 := dkwX3_most_2 ++ []
def dkwX3_most_1 : List UInt8 := [42, 182, 0, 22, 162, 0, 40, 27, 153, 0, 15, 42, 29, 182, 0, 28, 28, 164, 0, 21, 167, 0, 12, 42]
abbrev dktX3_most_1 : List UInt8 := dkwX3_most_1 ++ dktX3_most_2
def dkwX3_most_0 : List UInt8 := [42, 182, 0, 22, 158, 0, 7, 4, 167, 0, 4, 3, 184, 0, 88, 42, 3, 182, 0, 28, 61, 4, 62, 29]
abbrev dktX3_most_0 : List UInt8 := dkwX3_most_0 ++ dktX3_most_1
theorem dksX3_most_0 : cX3_most.data.toList.drop 0 = dktX3_most_0 := by decide +kernel
theorem dksX3_most_1 : cX3_most.data.toList.drop 24 = dktX3_most_1 := dk_seg dksX3_most_0 24 rfl rfl
theorem dksX3_most_2 : cX3_most.data.toList.drop 48 = dktX3_most_2 := dk_seg dksX3_most_1 24 rfl rfl
theorem dX3_most_0 : decode cX3_most 0 = .ok (.aload_n 0, 1) := dk_42 (dk_at dksX3_most_0 0 rfl rfl)
theorem dX3_most_1 : decode cX3_most 1 = .ok (.invokevirtual 22, 3) := dk_182 0 22 (dk_at dksX3_most_0 1 rfl rfl)
theorem dX3_most_4 : decode cX3_most 4 = .ok (.ifCond .le 7, 3) := dk_158 0 7 (dk_at dksX3_most_0 4 rfl rfl)
theorem dX3_most_7 : decode cX3_most 7 = .ok (.iconst 1, 1) := dk_4 (dk_at dksX3_most_0 7 rfl rfl)
theorem dX3_most_8 : decode cX3_most 8 = .ok (.goto 4, 3) := dk_167 0 4 (dk_at dksX3_most_0 8 rfl rfl)
theorem dX3_most_11 : decode cX3_most 11 = .ok (.iconst 0, 1) := dk_3 (dk_at dksX3_most_0 11 rfl rfl)
theorem dX3_most_12 : decode cX3_most 12 = .ok (.invokestatic 88, 3) := dk_184 0 88 (dk_at dksX3_most_0 12 rfl rfl)
theorem dX3_most_15 : decode cX3_most 15 = .ok (.aload_n 0, 1) := dk_42 (dk_at dksX3_most_0 15 rfl rfl)
theorem dX3_most_16 : decode cX3_most 16 = .ok (.iconst 0, 1) := dk_3 (dk_at dksX3_most_0 16 rfl rfl)
theorem dX3_most_17 : decode cX3_most 17 = .ok (.invokevirtual 28, 3) := dk_182 0 28 (dk_at dksX3_most_0 17 rfl rfl)
theorem dX3_most_20 : decode cX3_most 20 = .ok (.istore_n 2, 1) := dk_61 (dk_at dksX3_most_0 20 rfl rfl)
theorem dX3_most_21 : decode cX3_most 21 = .ok (.iconst 1, 1) := dk_4 (dk_at dksX3_most_0 21 rfl rfl)
theorem dX3_most_22 : decode cX3_most 22 = .ok (.istore_n 3, 1) := dk_62 (dk_at dksX3_most_0 22 rfl rfl)
theorem dX3_most_23 : decode cX3_most 23 = .ok (.iload_n 3, 1) := dk_29 (dk_at dksX3_most_0 23 rfl rfl)
theorem dX3_most_24 : decode cX3_most 24 = .ok (.aload_n 0, 1) := dk_42 (dk_at dksX3_most_1 0 rfl rfl)
theorem dX3_most_25 : decode cX3_most 25 = .ok (.invokevirtual 22, 3) := dk_182 0 22 (dk_at dksX3_most_1 1 rfl rfl)
theorem dX3_most_28 : decode cX3_most 28 = .ok (.if_icmp .ge 40, 3) := dk_162 0 40 (dk_at dksX3_most_1 4 rfl rfl)
theorem dX3_most_31 : decode cX3_most 31 = .ok (.iload_n 1, 1) := dk_27 (dk_at dksX3_most_1 7 rfl rfl)
theorem dX3_most_32 : decode cX3_most 32 = .ok (.ifCond .eq 15, 3) := dk_153 0 15 (dk_at dksX3_most_1 8 rfl rfl)
theorem dX3_most_35 : decode cX3_most 35 = .ok (.aload_n 0, 1) := dk_42 (dk_at dksX3_most_1 11 rfl rfl)
theorem dX3_most_36 : decode cX3_most 36 = .ok (.iload_n 3, 1) := dk_29 (dk_at dksX3_most_1 12 rfl rfl)
theorem dX3_most_37 : decode cX3_most 37 = .ok (.invokevirtual 28, 3) := dk_182 0 28 (dk_at dksX3_most_1 13 rfl rfl)
theorem dX3_most_40 : decode cX3_most 40 = .ok (.iload_n 2, 1) := dk_28 (dk_at dksX3_most_1 16 rfl rfl)
theorem dX3_most_41 : decode cX3_most 41 = .ok (.if_icmp .le 21, 3) := dk_164 0 21 (dk_at dksX3_most_1 17 rfl rfl)
theorem dX3_most_44 : decode cX3_most 44 = .ok (.goto 12, 3) := dk_167 0 12 (dk_at dksX3_most_1 20 rfl rfl)
theorem dX3_most_47 : decode cX3_most 47 = .ok (.aload_n 0, 1) := dk_42 (dk_at dksX3_most_1 23 rfl rfl)
theorem dX3_most_48 : decode cX3_most 48 = .ok (.iload_n 3, 1) := dk_29 (dk_at dksX3_most_2 0 rfl rfl)
theorem dX3_most_49 : decode cX3_most 49 = .ok (.invokevirtual 28, 3) := dk_182 0 28 (dk_at dksX3_most_2 1 rfl rfl)
theorem dX3_most_52 : decode cX3_most 52 = .ok (.iload_n 2, 1) := dk_28 (dk_at dksX3_most_2 4 rfl rfl)
theorem dX3_most_53 : decode cX3_most 53 = .ok (.if_icmp .ge 9, 3) := dk_162 0 9 (dk_at dksX3_most_2 5 rfl rfl)
theorem dX3_most_56 : decode cX3_most 56 = .ok (.aload_n 0, 1) := dk_42 (dk_at dksX3_most_2 8 rfl rfl)
theorem dX3_most_57 : decode cX3_most 57 = .ok (.iload_n 3, 1) := dk_29 (dk_at dksX3_most_2 9 rfl rfl)
theorem dX3_most_58 : decode cX3_most 58 = .ok (.invokevirtual 28, 3) := dk_182 0 28 (dk_at dksX3_most_2 10 rfl rfl)
theorem dX3_most_61 : decode cX3_most 61 = .ok (.istore_n 2, 1) := dk_61 (dk_at dksX3_most_2 13 rfl rfl)
theorem dX3_most_62 : decode cX3_most 62 = .ok (.iinc 3 1, 3) := dk_132 3 1 (dk_at dksX3_most_2 14 rfl rfl)
theorem dX3_most_65 : decode cX3_most 65 = .ok (.goto (-42), 3) := dk_167 255 214 (dk_at dksX3_most_2 17 rfl rfl)
theorem dX3_most_68 : decode cX3_most 68 = .ok (.iload_n 2, 1) := dk_28 (dk_at dksX3_most_2 20 rfl rfl)
theorem dX3_most_69 : decode cX3_most 69 = .ok (.ireturn, 1) := dk_172 (dk_at dksX3_most_2 21 rfl rfl)
abbrev cX3_permute : ByteArray := prog_14_method_18_code
def yX3_permute : MethodName := ⟨RX3, "permute", "(LLibraryDesk$Places;)I"⟩
def dkwX3_permute_3 : List UInt8 := [27, 4, 96, 184, 0, 91, 27, 156, 0, 7, 3, 167, 0, 4, 4, 172]
abbrev dktX3_permute_3 : List UInt8 := dkwX3_permute_3 ++ []
def dkwX3_permute_2 : List UInt8 := [182, 0, 28, 42, 27, 182, 0, 28, 163, 0, 9, 132, 2, 255, 167, 255, 240, 42, 27, 28, 184, 0, 75, 42]
abbrev dktX3_permute_2 : List UInt8 := dkwX3_permute_2 ++ dktX3_permute_3
def dkwX3_permute_1 : List UInt8 := [161, 0, 9, 132, 1, 255, 167, 255, 234, 27, 155, 0, 35, 42, 182, 0, 22, 4, 100, 61, 42, 28]
abbrev dktX3_permute_1 : List UInt8 := dkwX3_permute_1 ++ dktX3_permute_2
def dkwX3_permute_0 : List UInt8 := [42, 182, 0, 22, 5, 100, 60, 27, 155, 0, 24, 42, 27, 182, 0, 28, 42, 27, 4, 96, 182, 0, 28]
abbrev dktX3_permute_0 : List UInt8 := dkwX3_permute_0 ++ dktX3_permute_1
theorem dksX3_permute_0 : cX3_permute.data.toList.drop 0 = dktX3_permute_0 := by decide +kernel
theorem dksX3_permute_1 : cX3_permute.data.toList.drop 23 = dktX3_permute_1 := dk_seg dksX3_permute_0 23 rfl rfl
theorem dksX3_permute_2 : cX3_permute.data.toList.drop 45 = dktX3_permute_2 := dk_seg dksX3_permute_1 22 rfl rfl
theorem dksX3_permute_3 : cX3_permute.data.toList.drop 69 = dktX3_permute_3 := dk_seg dksX3_permute_2 24 rfl rfl
theorem dX3_permute_0 : decode cX3_permute 0 = .ok (.aload_n 0, 1) := dk_42 (dk_at dksX3_permute_0 0 rfl rfl)
theorem dX3_permute_1 : decode cX3_permute 1 = .ok (.invokevirtual 22, 3) := dk_182 0 22 (dk_at dksX3_permute_0 1 rfl rfl)
theorem dX3_permute_4 : decode cX3_permute 4 = .ok (.iconst 2, 1) := dk_5 (dk_at dksX3_permute_0 4 rfl rfl)
theorem dX3_permute_5 : decode cX3_permute 5 = .ok (.isub, 1) := dk_100 (dk_at dksX3_permute_0 5 rfl rfl)
theorem dX3_permute_6 : decode cX3_permute 6 = .ok (.istore_n 1, 1) := dk_60 (dk_at dksX3_permute_0 6 rfl rfl)
theorem dX3_permute_7 : decode cX3_permute 7 = .ok (.iload_n 1, 1) := dk_27 (dk_at dksX3_permute_0 7 rfl rfl)
theorem dX3_permute_8 : decode cX3_permute 8 = .ok (.ifCond .lt 24, 3) := dk_155 0 24 (dk_at dksX3_permute_0 8 rfl rfl)
theorem dX3_permute_11 : decode cX3_permute 11 = .ok (.aload_n 0, 1) := dk_42 (dk_at dksX3_permute_0 11 rfl rfl)
theorem dX3_permute_12 : decode cX3_permute 12 = .ok (.iload_n 1, 1) := dk_27 (dk_at dksX3_permute_0 12 rfl rfl)
theorem dX3_permute_13 : decode cX3_permute 13 = .ok (.invokevirtual 28, 3) := dk_182 0 28 (dk_at dksX3_permute_0 13 rfl rfl)
theorem dX3_permute_16 : decode cX3_permute 16 = .ok (.aload_n 0, 1) := dk_42 (dk_at dksX3_permute_0 16 rfl rfl)
theorem dX3_permute_17 : decode cX3_permute 17 = .ok (.iload_n 1, 1) := dk_27 (dk_at dksX3_permute_0 17 rfl rfl)
theorem dX3_permute_18 : decode cX3_permute 18 = .ok (.iconst 1, 1) := dk_4 (dk_at dksX3_permute_0 18 rfl rfl)
theorem dX3_permute_19 : decode cX3_permute 19 = .ok (.iadd, 1) := dk_96 (dk_at dksX3_permute_0 19 rfl rfl)
theorem dX3_permute_20 : decode cX3_permute 20 = .ok (.invokevirtual 28, 3) := dk_182 0 28 (dk_at dksX3_permute_0 20 rfl rfl)
theorem dX3_permute_23 : decode cX3_permute 23 = .ok (.if_icmp .lt 9, 3) := dk_161 0 9 (dk_at dksX3_permute_1 0 rfl rfl)
theorem dX3_permute_26 : decode cX3_permute 26 = .ok (.iinc 1 (-1), 3) := dk_132 1 255 (dk_at dksX3_permute_1 3 rfl rfl)
theorem dX3_permute_29 : decode cX3_permute 29 = .ok (.goto (-22), 3) := dk_167 255 234 (dk_at dksX3_permute_1 6 rfl rfl)
theorem dX3_permute_32 : decode cX3_permute 32 = .ok (.iload_n 1, 1) := dk_27 (dk_at dksX3_permute_1 9 rfl rfl)
theorem dX3_permute_33 : decode cX3_permute 33 = .ok (.ifCond .lt 35, 3) := dk_155 0 35 (dk_at dksX3_permute_1 10 rfl rfl)
theorem dX3_permute_36 : decode cX3_permute 36 = .ok (.aload_n 0, 1) := dk_42 (dk_at dksX3_permute_1 13 rfl rfl)
theorem dX3_permute_37 : decode cX3_permute 37 = .ok (.invokevirtual 22, 3) := dk_182 0 22 (dk_at dksX3_permute_1 14 rfl rfl)
theorem dX3_permute_40 : decode cX3_permute 40 = .ok (.iconst 1, 1) := dk_4 (dk_at dksX3_permute_1 17 rfl rfl)
theorem dX3_permute_41 : decode cX3_permute 41 = .ok (.isub, 1) := dk_100 (dk_at dksX3_permute_1 18 rfl rfl)
theorem dX3_permute_42 : decode cX3_permute 42 = .ok (.istore_n 2, 1) := dk_61 (dk_at dksX3_permute_1 19 rfl rfl)
theorem dX3_permute_43 : decode cX3_permute 43 = .ok (.aload_n 0, 1) := dk_42 (dk_at dksX3_permute_1 20 rfl rfl)
theorem dX3_permute_44 : decode cX3_permute 44 = .ok (.iload_n 2, 1) := dk_28 (dk_at dksX3_permute_1 21 rfl rfl)
theorem dX3_permute_45 : decode cX3_permute 45 = .ok (.invokevirtual 28, 3) := dk_182 0 28 (dk_at dksX3_permute_2 0 rfl rfl)
theorem dX3_permute_48 : decode cX3_permute 48 = .ok (.aload_n 0, 1) := dk_42 (dk_at dksX3_permute_2 3 rfl rfl)
theorem dX3_permute_49 : decode cX3_permute 49 = .ok (.iload_n 1, 1) := dk_27 (dk_at dksX3_permute_2 4 rfl rfl)
theorem dX3_permute_50 : decode cX3_permute 50 = .ok (.invokevirtual 28, 3) := dk_182 0 28 (dk_at dksX3_permute_2 5 rfl rfl)
theorem dX3_permute_53 : decode cX3_permute 53 = .ok (.if_icmp .gt 9, 3) := dk_163 0 9 (dk_at dksX3_permute_2 8 rfl rfl)
theorem dX3_permute_56 : decode cX3_permute 56 = .ok (.iinc 2 (-1), 3) := dk_132 2 255 (dk_at dksX3_permute_2 11 rfl rfl)
theorem dX3_permute_59 : decode cX3_permute 59 = .ok (.goto (-16), 3) := dk_167 255 240 (dk_at dksX3_permute_2 14 rfl rfl)
theorem dX3_permute_62 : decode cX3_permute 62 = .ok (.aload_n 0, 1) := dk_42 (dk_at dksX3_permute_2 17 rfl rfl)
theorem dX3_permute_63 : decode cX3_permute 63 = .ok (.iload_n 1, 1) := dk_27 (dk_at dksX3_permute_2 18 rfl rfl)
theorem dX3_permute_64 : decode cX3_permute 64 = .ok (.iload_n 2, 1) := dk_28 (dk_at dksX3_permute_2 19 rfl rfl)
theorem dX3_permute_65 : decode cX3_permute 65 = .ok (.invokestatic 75, 3) := dk_184 0 75 (dk_at dksX3_permute_2 20 rfl rfl)
theorem dX3_permute_68 : decode cX3_permute 68 = .ok (.aload_n 0, 1) := dk_42 (dk_at dksX3_permute_2 23 rfl rfl)
theorem dX3_permute_69 : decode cX3_permute 69 = .ok (.iload_n 1, 1) := dk_27 (dk_at dksX3_permute_3 0 rfl rfl)
theorem dX3_permute_70 : decode cX3_permute 70 = .ok (.iconst 1, 1) := dk_4 (dk_at dksX3_permute_3 1 rfl rfl)
theorem dX3_permute_71 : decode cX3_permute 71 = .ok (.iadd, 1) := dk_96 (dk_at dksX3_permute_3 2 rfl rfl)
theorem dX3_permute_72 : decode cX3_permute 72 = .ok (.invokestatic 91, 3) := dk_184 0 91 (dk_at dksX3_permute_3 3 rfl rfl)
theorem dX3_permute_75 : decode cX3_permute 75 = .ok (.iload_n 1, 1) := dk_27 (dk_at dksX3_permute_3 6 rfl rfl)
theorem dX3_permute_76 : decode cX3_permute 76 = .ok (.ifCond .ge 7, 3) := dk_156 0 7 (dk_at dksX3_permute_3 7 rfl rfl)
theorem dX3_permute_79 : decode cX3_permute 79 = .ok (.iconst 0, 1) := dk_3 (dk_at dksX3_permute_3 10 rfl rfl)
theorem dX3_permute_80 : decode cX3_permute 80 = .ok (.goto 4, 3) := dk_167 0 4 (dk_at dksX3_permute_3 11 rfl rfl)
theorem dX3_permute_83 : decode cX3_permute 83 = .ok (.iconst 1, 1) := dk_4 (dk_at dksX3_permute_3 14 rfl rfl)
theorem dX3_permute_84 : decode cX3_permute 84 = .ok (.ireturn, 1) := dk_172 (dk_at dksX3_permute_3 15 rfl rfl)
abbrev cX3_swap : ByteArray := prog_14_method_10_code
def yX3_swap : MethodName := ⟨RX3, "swap", "(LLibraryDesk$Places;II)V"⟩
def dkwX3_swap_0 : List UInt8 := [42, 27, 182, 0, 28, 62, 42, 27, 42, 28, 182, 0, 28, 182, 0, 46, 42, 28, 29, 182, 0, 46, 177]
abbrev dktX3_swap_0 : List UInt8 := dkwX3_swap_0 ++ []
theorem dksX3_swap_0 : cX3_swap.data.toList.drop 0 = dktX3_swap_0 := by decide +kernel
theorem dX3_swap_0 : decode cX3_swap 0 = .ok (.aload_n 0, 1) := dk_42 (dk_at dksX3_swap_0 0 rfl rfl)
theorem dX3_swap_1 : decode cX3_swap 1 = .ok (.iload_n 1, 1) := dk_27 (dk_at dksX3_swap_0 1 rfl rfl)
theorem dX3_swap_2 : decode cX3_swap 2 = .ok (.invokevirtual 28, 3) := dk_182 0 28 (dk_at dksX3_swap_0 2 rfl rfl)
theorem dX3_swap_5 : decode cX3_swap 5 = .ok (.istore_n 3, 1) := dk_62 (dk_at dksX3_swap_0 5 rfl rfl)
theorem dX3_swap_6 : decode cX3_swap 6 = .ok (.aload_n 0, 1) := dk_42 (dk_at dksX3_swap_0 6 rfl rfl)
theorem dX3_swap_7 : decode cX3_swap 7 = .ok (.iload_n 1, 1) := dk_27 (dk_at dksX3_swap_0 7 rfl rfl)
theorem dX3_swap_8 : decode cX3_swap 8 = .ok (.aload_n 0, 1) := dk_42 (dk_at dksX3_swap_0 8 rfl rfl)
theorem dX3_swap_9 : decode cX3_swap 9 = .ok (.iload_n 2, 1) := dk_28 (dk_at dksX3_swap_0 9 rfl rfl)
theorem dX3_swap_10 : decode cX3_swap 10 = .ok (.invokevirtual 28, 3) := dk_182 0 28 (dk_at dksX3_swap_0 10 rfl rfl)
theorem dX3_swap_13 : decode cX3_swap 13 = .ok (.invokevirtual 46, 3) := dk_182 0 46 (dk_at dksX3_swap_0 13 rfl rfl)
theorem dX3_swap_16 : decode cX3_swap 16 = .ok (.aload_n 0, 1) := dk_42 (dk_at dksX3_swap_0 16 rfl rfl)
theorem dX3_swap_17 : decode cX3_swap 17 = .ok (.iload_n 2, 1) := dk_28 (dk_at dksX3_swap_0 17 rfl rfl)
theorem dX3_swap_18 : decode cX3_swap 18 = .ok (.iload_n 3, 1) := dk_29 (dk_at dksX3_swap_0 18 rfl rfl)
theorem dX3_swap_19 : decode cX3_swap 19 = .ok (.invokevirtual 46, 3) := dk_182 0 46 (dk_at dksX3_swap_0 19 rfl rfl)
theorem dX3_swap_22 : decode cX3_swap 22 = .ok (.return_, 1) := dk_177 (dk_at dksX3_swap_0 22 rfl rfl)
abbrev cX3_reverse : ByteArray := prog_14_method_11_code
def yX3_reverse : MethodName := ⟨RX3, "reverse", "(LLibraryDesk$Places;I)V"⟩
def dkwX3_reverse_1 : List UInt8 := [132, 3, 255, 167, 255, 239, 177]
abbrev dktX3_reverse_1 : List UInt8 := dkwX3_reverse_1 ++ []
def dkwX3_reverse_0 : List UInt8 := [27, 61, 42, 182, 0, 22, 4, 100, 62, 28, 29, 162, 0, 18, 42, 28, 29, 184, 0, 75, 132, 2, 1]
abbrev dktX3_reverse_0 : List UInt8 := dkwX3_reverse_0 ++ dktX3_reverse_1
theorem dksX3_reverse_0 : cX3_reverse.data.toList.drop 0 = dktX3_reverse_0 := by decide +kernel
theorem dksX3_reverse_1 : cX3_reverse.data.toList.drop 23 = dktX3_reverse_1 := dk_seg dksX3_reverse_0 23 rfl rfl
theorem dX3_reverse_0 : decode cX3_reverse 0 = .ok (.iload_n 1, 1) := dk_27 (dk_at dksX3_reverse_0 0 rfl rfl)
theorem dX3_reverse_1 : decode cX3_reverse 1 = .ok (.istore_n 2, 1) := dk_61 (dk_at dksX3_reverse_0 1 rfl rfl)
theorem dX3_reverse_2 : decode cX3_reverse 2 = .ok (.aload_n 0, 1) := dk_42 (dk_at dksX3_reverse_0 2 rfl rfl)
theorem dX3_reverse_3 : decode cX3_reverse 3 = .ok (.invokevirtual 22, 3) := dk_182 0 22 (dk_at dksX3_reverse_0 3 rfl rfl)
theorem dX3_reverse_6 : decode cX3_reverse 6 = .ok (.iconst 1, 1) := dk_4 (dk_at dksX3_reverse_0 6 rfl rfl)
theorem dX3_reverse_7 : decode cX3_reverse 7 = .ok (.isub, 1) := dk_100 (dk_at dksX3_reverse_0 7 rfl rfl)
theorem dX3_reverse_8 : decode cX3_reverse 8 = .ok (.istore_n 3, 1) := dk_62 (dk_at dksX3_reverse_0 8 rfl rfl)
theorem dX3_reverse_9 : decode cX3_reverse 9 = .ok (.iload_n 2, 1) := dk_28 (dk_at dksX3_reverse_0 9 rfl rfl)
theorem dX3_reverse_10 : decode cX3_reverse 10 = .ok (.iload_n 3, 1) := dk_29 (dk_at dksX3_reverse_0 10 rfl rfl)
theorem dX3_reverse_11 : decode cX3_reverse 11 = .ok (.if_icmp .ge 18, 3) := dk_162 0 18 (dk_at dksX3_reverse_0 11 rfl rfl)
theorem dX3_reverse_14 : decode cX3_reverse 14 = .ok (.aload_n 0, 1) := dk_42 (dk_at dksX3_reverse_0 14 rfl rfl)
theorem dX3_reverse_15 : decode cX3_reverse 15 = .ok (.iload_n 2, 1) := dk_28 (dk_at dksX3_reverse_0 15 rfl rfl)
theorem dX3_reverse_16 : decode cX3_reverse 16 = .ok (.iload_n 3, 1) := dk_29 (dk_at dksX3_reverse_0 16 rfl rfl)
theorem dX3_reverse_17 : decode cX3_reverse 17 = .ok (.invokestatic 75, 3) := dk_184 0 75 (dk_at dksX3_reverse_0 17 rfl rfl)
theorem dX3_reverse_20 : decode cX3_reverse 20 = .ok (.iinc 2 1, 3) := dk_132 2 1 (dk_at dksX3_reverse_0 20 rfl rfl)
theorem dX3_reverse_23 : decode cX3_reverse 23 = .ok (.iinc 3 (-1), 3) := dk_132 3 255 (dk_at dksX3_reverse_1 0 rfl rfl)
theorem dX3_reverse_26 : decode cX3_reverse 26 = .ok (.goto (-17), 3) := dk_167 255 239 (dk_at dksX3_reverse_1 3 rfl rfl)
theorem dX3_reverse_29 : decode cX3_reverse 29 = .ok (.return_, 1) := dk_177 (dk_at dksX3_reverse_1 6 rfl rfl)
abbrev cX3_hash : ByteArray := prog_14_method_19_code
def yX3_hash : MethodName := ⟨RX3, "hash", "(LLibraryDesk$Places;)I"⟩
def dkwX3_hash_1 : List UInt8 := [132, 2, 1, 167, 255, 234, 27, 172]
abbrev dktX3_hash_1 : List UInt8 := dkwX3_hash_1 ++ []
def dkwX3_hash_0 : List UInt8 := [4, 60, 3, 61, 28, 42, 182, 0, 22, 162, 0, 20, 16, 31, 27, 104, 42, 28, 182, 0, 28, 96, 60]
abbrev dktX3_hash_0 : List UInt8 := dkwX3_hash_0 ++ dktX3_hash_1
theorem dksX3_hash_0 : cX3_hash.data.toList.drop 0 = dktX3_hash_0 := by decide +kernel
theorem dksX3_hash_1 : cX3_hash.data.toList.drop 23 = dktX3_hash_1 := dk_seg dksX3_hash_0 23 rfl rfl
theorem dX3_hash_0 : decode cX3_hash 0 = .ok (.iconst 1, 1) := dk_4 (dk_at dksX3_hash_0 0 rfl rfl)
theorem dX3_hash_1 : decode cX3_hash 1 = .ok (.istore_n 1, 1) := dk_60 (dk_at dksX3_hash_0 1 rfl rfl)
theorem dX3_hash_2 : decode cX3_hash 2 = .ok (.iconst 0, 1) := dk_3 (dk_at dksX3_hash_0 2 rfl rfl)
theorem dX3_hash_3 : decode cX3_hash 3 = .ok (.istore_n 2, 1) := dk_61 (dk_at dksX3_hash_0 3 rfl rfl)
theorem dX3_hash_4 : decode cX3_hash 4 = .ok (.iload_n 2, 1) := dk_28 (dk_at dksX3_hash_0 4 rfl rfl)
theorem dX3_hash_5 : decode cX3_hash 5 = .ok (.aload_n 0, 1) := dk_42 (dk_at dksX3_hash_0 5 rfl rfl)
theorem dX3_hash_6 : decode cX3_hash 6 = .ok (.invokevirtual 22, 3) := dk_182 0 22 (dk_at dksX3_hash_0 6 rfl rfl)
theorem dX3_hash_9 : decode cX3_hash 9 = .ok (.if_icmp .ge 20, 3) := dk_162 0 20 (dk_at dksX3_hash_0 9 rfl rfl)
theorem dX3_hash_12 : decode cX3_hash 12 = .ok (.bipush 31, 2) := dk_16 31 (dk_at dksX3_hash_0 12 rfl rfl)
theorem dX3_hash_14 : decode cX3_hash 14 = .ok (.iload_n 1, 1) := dk_27 (dk_at dksX3_hash_0 14 rfl rfl)
theorem dX3_hash_15 : decode cX3_hash 15 = .ok (.imul, 1) := dk_104 (dk_at dksX3_hash_0 15 rfl rfl)
theorem dX3_hash_16 : decode cX3_hash 16 = .ok (.aload_n 0, 1) := dk_42 (dk_at dksX3_hash_0 16 rfl rfl)
theorem dX3_hash_17 : decode cX3_hash 17 = .ok (.iload_n 2, 1) := dk_28 (dk_at dksX3_hash_0 17 rfl rfl)
theorem dX3_hash_18 : decode cX3_hash 18 = .ok (.invokevirtual 28, 3) := dk_182 0 28 (dk_at dksX3_hash_0 18 rfl rfl)
theorem dX3_hash_21 : decode cX3_hash 21 = .ok (.iadd, 1) := dk_96 (dk_at dksX3_hash_0 21 rfl rfl)
theorem dX3_hash_22 : decode cX3_hash 22 = .ok (.istore_n 1, 1) := dk_60 (dk_at dksX3_hash_0 22 rfl rfl)
theorem dX3_hash_23 : decode cX3_hash 23 = .ok (.iinc 2 1, 3) := dk_132 2 1 (dk_at dksX3_hash_1 0 rfl rfl)
theorem dX3_hash_26 : decode cX3_hash 26 = .ok (.goto (-22), 3) := dk_167 255 234 (dk_at dksX3_hash_1 3 rfl rfl)
theorem dX3_hash_29 : decode cX3_hash 29 = .ok (.iload_n 1, 1) := dk_27 (dk_at dksX3_hash_1 6 rfl rfl)
theorem dX3_hash_30 : decode cX3_hash 30 = .ok (.ireturn, 1) := dk_172 (dk_at dksX3_hash_1 7 rfl rfl)
abbrev cX3_capacity : ByteArray := prog_14_method_24_code
def yX3_capacity : MethodName := ⟨RX3, "capacity", "(LLibraryDesk$Places;II)J"⟩
def dkwX3_capacity_2 : List UInt8 := [180, 0, 156, 133, 173]
abbrev dktX3_capacity_2 : List UInt8 := dkwX3_capacity_2 ++ []
def dkwX3_capacity_1 : List UInt8 := [160, 0, 8, 45, 28, 182, 0, 147, 27, 16, 29, 160, 0, 11, 45, 45, 180, 0, 153, 181, 0, 156, 45]
abbrev dktX3_capacity_1 : List UInt8 := dkwX3_capacity_1 ++ dktX3_capacity_2
def dkwX3_capacity_0 : List UInt8 := [42, 182, 0, 137, 154, 0, 7, 4, 167, 0, 4, 3, 184, 0, 140, 42, 182, 0, 143, 78, 27, 16, 28]
abbrev dktX3_capacity_0 : List UInt8 := dkwX3_capacity_0 ++ dktX3_capacity_1
theorem dksX3_capacity_0 : cX3_capacity.data.toList.drop 0 = dktX3_capacity_0 := by decide +kernel
theorem dksX3_capacity_1 : cX3_capacity.data.toList.drop 23 = dktX3_capacity_1 := dk_seg dksX3_capacity_0 23 rfl rfl
theorem dksX3_capacity_2 : cX3_capacity.data.toList.drop 46 = dktX3_capacity_2 := dk_seg dksX3_capacity_1 23 rfl rfl
theorem dX3_capacity_0 : decode cX3_capacity 0 = .ok (.aload_n 0, 1) := dk_42 (dk_at dksX3_capacity_0 0 rfl rfl)
theorem dX3_capacity_1 : decode cX3_capacity 1 = .ok (.invokevirtual 137, 3) := dk_182 0 137 (dk_at dksX3_capacity_0 1 rfl rfl)
theorem dX3_capacity_4 : decode cX3_capacity 4 = .ok (.ifCond .ne 7, 3) := dk_154 0 7 (dk_at dksX3_capacity_0 4 rfl rfl)
theorem dX3_capacity_7 : decode cX3_capacity 7 = .ok (.iconst 1, 1) := dk_4 (dk_at dksX3_capacity_0 7 rfl rfl)
theorem dX3_capacity_8 : decode cX3_capacity 8 = .ok (.goto 4, 3) := dk_167 0 4 (dk_at dksX3_capacity_0 8 rfl rfl)
theorem dX3_capacity_11 : decode cX3_capacity 11 = .ok (.iconst 0, 1) := dk_3 (dk_at dksX3_capacity_0 11 rfl rfl)
theorem dX3_capacity_12 : decode cX3_capacity 12 = .ok (.invokestatic 140, 3) := dk_184 0 140 (dk_at dksX3_capacity_0 12 rfl rfl)
theorem dX3_capacity_15 : decode cX3_capacity 15 = .ok (.aload_n 0, 1) := dk_42 (dk_at dksX3_capacity_0 15 rfl rfl)
theorem dX3_capacity_16 : decode cX3_capacity 16 = .ok (.invokevirtual 143, 3) := dk_182 0 143 (dk_at dksX3_capacity_0 16 rfl rfl)
theorem dX3_capacity_19 : decode cX3_capacity 19 = .ok (.astore_n 3, 1) := dk_78 (dk_at dksX3_capacity_0 19 rfl rfl)
theorem dX3_capacity_20 : decode cX3_capacity 20 = .ok (.iload_n 1, 1) := dk_27 (dk_at dksX3_capacity_0 20 rfl rfl)
theorem dX3_capacity_21 : decode cX3_capacity 21 = .ok (.bipush 28, 2) := dk_16 28 (dk_at dksX3_capacity_0 21 rfl rfl)
theorem dX3_capacity_23 : decode cX3_capacity 23 = .ok (.if_icmp .ne 8, 3) := dk_160 0 8 (dk_at dksX3_capacity_1 0 rfl rfl)
theorem dX3_capacity_26 : decode cX3_capacity 26 = .ok (.aload_n 3, 1) := dk_45 (dk_at dksX3_capacity_1 3 rfl rfl)
theorem dX3_capacity_27 : decode cX3_capacity 27 = .ok (.iload_n 2, 1) := dk_28 (dk_at dksX3_capacity_1 4 rfl rfl)
theorem dX3_capacity_28 : decode cX3_capacity 28 = .ok (.invokevirtual 147, 3) := dk_182 0 147 (dk_at dksX3_capacity_1 5 rfl rfl)
theorem dX3_capacity_31 : decode cX3_capacity 31 = .ok (.iload_n 1, 1) := dk_27 (dk_at dksX3_capacity_1 8 rfl rfl)
theorem dX3_capacity_32 : decode cX3_capacity 32 = .ok (.bipush 29, 2) := dk_16 29 (dk_at dksX3_capacity_1 9 rfl rfl)
theorem dX3_capacity_34 : decode cX3_capacity 34 = .ok (.if_icmp .ne 11, 3) := dk_160 0 11 (dk_at dksX3_capacity_1 11 rfl rfl)
theorem dX3_capacity_37 : decode cX3_capacity 37 = .ok (.aload_n 3, 1) := dk_45 (dk_at dksX3_capacity_1 14 rfl rfl)
theorem dX3_capacity_38 : decode cX3_capacity 38 = .ok (.aload_n 3, 1) := dk_45 (dk_at dksX3_capacity_1 15 rfl rfl)
theorem dX3_capacity_39 : decode cX3_capacity 39 = .ok (.getfield 153, 3) := dk_180 0 153 (dk_at dksX3_capacity_1 16 rfl rfl)
theorem dX3_capacity_42 : decode cX3_capacity 42 = .ok (.putfield 156, 3) := dk_181 0 156 (dk_at dksX3_capacity_1 19 rfl rfl)
theorem dX3_capacity_45 : decode cX3_capacity 45 = .ok (.aload_n 3, 1) := dk_45 (dk_at dksX3_capacity_1 22 rfl rfl)
theorem dX3_capacity_46 : decode cX3_capacity 46 = .ok (.getfield 156, 3) := dk_180 0 156 (dk_at dksX3_capacity_2 0 rfl rfl)
theorem dX3_capacity_49 : decode cX3_capacity 49 = .ok (.i2l, 1) := dk_133 (dk_at dksX3_capacity_2 3 rfl rfl)
theorem dX3_capacity_50 : decode cX3_capacity 50 = .ok (.lreturn, 1) := dk_173 (dk_at dksX3_capacity_2 4 rfl rfl)
abbrev cX3_order : ByteArray := prog_14_method_25_code
def yX3_order : MethodName := ⟨RX3, "orde\x72", "(LLibraryDesk$Places;III)J"⟩
def dkwX3_order_6 : List UInt8 := [182, 0, 46, 132, 6, 1, 167, 255, 239, 21, 5, 133, 173]
abbrev dktX3_order_6 : List UInt8 := dkwX3_order_6 ++ []
def dkwX3_order_5 : List UInt8 := [29, 21, 4, 184, 0, 75, 167, 0, 26, 3, 54, 6, 21, 6, 21, 5, 162, 0, 16, 43, 21, 6, 29]
abbrev dktX3_order_5 : List UInt8 := dkwX3_order_5 ++ dktX3_order_6
def dkwX3_order_4 : List UInt8 := [162, 0, 19, 21, 4, 155, 0, 14, 21, 4, 21, 5, 162, 0, 7, 4, 167, 0, 4, 3, 184, 0, 36, 43]
abbrev dktX3_order_4 : List UInt8 := dkwX3_order_4 ++ dktX3_order_5
def dkwX3_order_3 : List UInt8 := [29, 182, 0, 161, 167, 0, 74, 43, 29, 184, 0, 164, 167, 0, 66, 29, 155, 0, 25, 29, 21, 5]
abbrev dktX3_order_3 : List UInt8 := dkwX3_order_3 ++ dktX3_order_4
def dkwX3_order_2 : List UInt8 := [42, 43, 29, 182, 0, 158, 167, 0, 96, 43, 3, 184, 0, 91, 167, 0, 88, 21, 5, 158, 0, 83, 42, 43]
abbrev dktX3_order_2 : List UInt8 := dkwX3_order_2 ++ dktX3_order_3
def dkwX3_order_1 : List UInt8 := [170, 0, 0, 0, 112, 0, 0, 0, 12, 0, 0, 0, 16, 0, 0, 0, 33, 0, 0, 0, 42, 0, 0, 0, 50, 0, 0, 0, 64, 0, 0, 0, 72]
abbrev dktX3_order_1 : List UInt8 := dkwX3_order_1 ++ dktX3_order_2
def dkwX3_order_0 : List UInt8 := [43, 182, 0, 22, 54, 5, 28]
abbrev dktX3_order_0 : List UInt8 := dkwX3_order_0 ++ dktX3_order_1
theorem dksX3_order_0 : cX3_order.data.toList.drop 0 = dktX3_order_0 := by decide +kernel
theorem dksX3_order_1 : cX3_order.data.toList.drop 7 = dktX3_order_1 := dk_seg dksX3_order_0 7 rfl rfl
theorem dksX3_order_2 : cX3_order.data.toList.drop 40 = dktX3_order_2 := dk_seg dksX3_order_1 33 rfl rfl
theorem dksX3_order_3 : cX3_order.data.toList.drop 64 = dktX3_order_3 := dk_seg dksX3_order_2 24 rfl rfl
theorem dksX3_order_4 : cX3_order.data.toList.drop 86 = dktX3_order_4 := dk_seg dksX3_order_3 22 rfl rfl
theorem dksX3_order_5 : cX3_order.data.toList.drop 110 = dktX3_order_5 := dk_seg dksX3_order_4 24 rfl rfl
theorem dksX3_order_6 : cX3_order.data.toList.drop 133 = dktX3_order_6 := dk_seg dksX3_order_5 23 rfl rfl
theorem dX3_order_0 : decode cX3_order 0 = .ok (.aload_n 1, 1) := dk_43 (dk_at dksX3_order_0 0 rfl rfl)
theorem dX3_order_1 : decode cX3_order 1 = .ok (.invokevirtual 22, 3) := dk_182 0 22 (dk_at dksX3_order_0 1 rfl rfl)
theorem dX3_order_4 : decode cX3_order 4 = .ok (.istore 5, 2) := dk_54 5 (dk_at dksX3_order_0 4 rfl rfl)
theorem dX3_order_6 : decode cX3_order 6 = .ok (.iload_n 2, 1) := dk_28 (dk_at dksX3_order_0 6 rfl rfl)
theorem dX3_order_7 : decode cX3_order 7 = .ok (.tableswitch 112 12 16 #[33, 42, 50, 64, 72], 33) := by decide +kernel
theorem dX3_order_40 : decode cX3_order 40 = .ok (.aload_n 0, 1) := dk_42 (dk_at dksX3_order_2 0 rfl rfl)
theorem dX3_order_41 : decode cX3_order 41 = .ok (.aload_n 1, 1) := dk_43 (dk_at dksX3_order_2 1 rfl rfl)
theorem dX3_order_42 : decode cX3_order 42 = .ok (.iload_n 3, 1) := dk_29 (dk_at dksX3_order_2 2 rfl rfl)
theorem dX3_order_43 : decode cX3_order 43 = .ok (.invokevirtual 158, 3) := dk_182 0 158 (dk_at dksX3_order_2 3 rfl rfl)
theorem dX3_order_46 : decode cX3_order 46 = .ok (.goto 96, 3) := dk_167 0 96 (dk_at dksX3_order_2 6 rfl rfl)
theorem dX3_order_49 : decode cX3_order 49 = .ok (.aload_n 1, 1) := dk_43 (dk_at dksX3_order_2 9 rfl rfl)
theorem dX3_order_50 : decode cX3_order 50 = .ok (.iconst 0, 1) := dk_3 (dk_at dksX3_order_2 10 rfl rfl)
theorem dX3_order_51 : decode cX3_order 51 = .ok (.invokestatic 91, 3) := dk_184 0 91 (dk_at dksX3_order_2 11 rfl rfl)
theorem dX3_order_54 : decode cX3_order 54 = .ok (.goto 88, 3) := dk_167 0 88 (dk_at dksX3_order_2 14 rfl rfl)
theorem dX3_order_57 : decode cX3_order 57 = .ok (.iload 5, 2) := dk_21 5 (dk_at dksX3_order_2 17 rfl rfl)
theorem dX3_order_59 : decode cX3_order 59 = .ok (.ifCond .le 83, 3) := dk_158 0 83 (dk_at dksX3_order_2 19 rfl rfl)
theorem dX3_order_62 : decode cX3_order 62 = .ok (.aload_n 0, 1) := dk_42 (dk_at dksX3_order_2 22 rfl rfl)
theorem dX3_order_63 : decode cX3_order 63 = .ok (.aload_n 1, 1) := dk_43 (dk_at dksX3_order_2 23 rfl rfl)
theorem dX3_order_64 : decode cX3_order 64 = .ok (.iload_n 3, 1) := dk_29 (dk_at dksX3_order_3 0 rfl rfl)
theorem dX3_order_65 : decode cX3_order 65 = .ok (.invokevirtual 161, 3) := dk_182 0 161 (dk_at dksX3_order_3 1 rfl rfl)
theorem dX3_order_68 : decode cX3_order 68 = .ok (.goto 74, 3) := dk_167 0 74 (dk_at dksX3_order_3 4 rfl rfl)
theorem dX3_order_71 : decode cX3_order 71 = .ok (.aload_n 1, 1) := dk_43 (dk_at dksX3_order_3 7 rfl rfl)
theorem dX3_order_72 : decode cX3_order 72 = .ok (.iload_n 3, 1) := dk_29 (dk_at dksX3_order_3 8 rfl rfl)
theorem dX3_order_73 : decode cX3_order 73 = .ok (.invokestatic 164, 3) := dk_184 0 164 (dk_at dksX3_order_3 9 rfl rfl)
theorem dX3_order_76 : decode cX3_order 76 = .ok (.goto 66, 3) := dk_167 0 66 (dk_at dksX3_order_3 12 rfl rfl)
theorem dX3_order_79 : decode cX3_order 79 = .ok (.iload_n 3, 1) := dk_29 (dk_at dksX3_order_3 15 rfl rfl)
theorem dX3_order_80 : decode cX3_order 80 = .ok (.ifCond .lt 25, 3) := dk_155 0 25 (dk_at dksX3_order_3 16 rfl rfl)
theorem dX3_order_83 : decode cX3_order 83 = .ok (.iload_n 3, 1) := dk_29 (dk_at dksX3_order_3 19 rfl rfl)
theorem dX3_order_84 : decode cX3_order 84 = .ok (.iload 5, 2) := dk_21 5 (dk_at dksX3_order_3 20 rfl rfl)
theorem dX3_order_86 : decode cX3_order 86 = .ok (.if_icmp .ge 19, 3) := dk_162 0 19 (dk_at dksX3_order_4 0 rfl rfl)
theorem dX3_order_89 : decode cX3_order 89 = .ok (.iload 4, 2) := dk_21 4 (dk_at dksX3_order_4 3 rfl rfl)
theorem dX3_order_91 : decode cX3_order 91 = .ok (.ifCond .lt 14, 3) := dk_155 0 14 (dk_at dksX3_order_4 5 rfl rfl)
theorem dX3_order_94 : decode cX3_order 94 = .ok (.iload 4, 2) := dk_21 4 (dk_at dksX3_order_4 8 rfl rfl)
theorem dX3_order_96 : decode cX3_order 96 = .ok (.iload 5, 2) := dk_21 5 (dk_at dksX3_order_4 10 rfl rfl)
theorem dX3_order_98 : decode cX3_order 98 = .ok (.if_icmp .ge 7, 3) := dk_162 0 7 (dk_at dksX3_order_4 12 rfl rfl)
theorem dX3_order_101 : decode cX3_order 101 = .ok (.iconst 1, 1) := dk_4 (dk_at dksX3_order_4 15 rfl rfl)
theorem dX3_order_102 : decode cX3_order 102 = .ok (.goto 4, 3) := dk_167 0 4 (dk_at dksX3_order_4 16 rfl rfl)
theorem dX3_order_105 : decode cX3_order 105 = .ok (.iconst 0, 1) := dk_3 (dk_at dksX3_order_4 19 rfl rfl)
theorem dX3_order_106 : decode cX3_order 106 = .ok (.invokestatic 36, 3) := dk_184 0 36 (dk_at dksX3_order_4 20 rfl rfl)
theorem dX3_order_109 : decode cX3_order 109 = .ok (.aload_n 1, 1) := dk_43 (dk_at dksX3_order_4 23 rfl rfl)
theorem dX3_order_110 : decode cX3_order 110 = .ok (.iload_n 3, 1) := dk_29 (dk_at dksX3_order_5 0 rfl rfl)
theorem dX3_order_111 : decode cX3_order 111 = .ok (.iload 4, 2) := dk_21 4 (dk_at dksX3_order_5 1 rfl rfl)
theorem dX3_order_113 : decode cX3_order 113 = .ok (.invokestatic 75, 3) := dk_184 0 75 (dk_at dksX3_order_5 3 rfl rfl)
theorem dX3_order_116 : decode cX3_order 116 = .ok (.goto 26, 3) := dk_167 0 26 (dk_at dksX3_order_5 6 rfl rfl)
theorem dX3_order_119 : decode cX3_order 119 = .ok (.iconst 0, 1) := dk_3 (dk_at dksX3_order_5 9 rfl rfl)
theorem dX3_order_120 : decode cX3_order 120 = .ok (.istore 6, 2) := dk_54 6 (dk_at dksX3_order_5 10 rfl rfl)
theorem dX3_order_122 : decode cX3_order 122 = .ok (.iload 6, 2) := dk_21 6 (dk_at dksX3_order_5 12 rfl rfl)
theorem dX3_order_124 : decode cX3_order 124 = .ok (.iload 5, 2) := dk_21 5 (dk_at dksX3_order_5 14 rfl rfl)
theorem dX3_order_126 : decode cX3_order 126 = .ok (.if_icmp .ge 16, 3) := dk_162 0 16 (dk_at dksX3_order_5 16 rfl rfl)
theorem dX3_order_129 : decode cX3_order 129 = .ok (.aload_n 1, 1) := dk_43 (dk_at dksX3_order_5 19 rfl rfl)
theorem dX3_order_130 : decode cX3_order 130 = .ok (.iload 6, 2) := dk_21 6 (dk_at dksX3_order_5 20 rfl rfl)
theorem dX3_order_132 : decode cX3_order 132 = .ok (.iload_n 3, 1) := dk_29 (dk_at dksX3_order_5 22 rfl rfl)
theorem dX3_order_133 : decode cX3_order 133 = .ok (.invokevirtual 46, 3) := dk_182 0 46 (dk_at dksX3_order_6 0 rfl rfl)
theorem dX3_order_136 : decode cX3_order 136 = .ok (.iinc 6 1, 3) := dk_132 6 1 (dk_at dksX3_order_6 3 rfl rfl)
theorem dX3_order_139 : decode cX3_order 139 = .ok (.goto (-17), 3) := dk_167 255 239 (dk_at dksX3_order_6 6 rfl rfl)
theorem dX3_order_142 : decode cX3_order 142 = .ok (.iload 5, 2) := dk_21 5 (dk_at dksX3_order_6 9 rfl rfl)
theorem dX3_order_144 : decode cX3_order 144 = .ok (.i2l, 1) := dk_133 (dk_at dksX3_order_6 11 rfl rfl)
theorem dX3_order_145 : decode cX3_order 145 = .ok (.lreturn, 1) := dk_173 (dk_at dksX3_order_6 12 rfl rfl)
abbrev cX3_sort : ByteArray := prog_14_method_8_code
def yX3_sort : MethodName := ⟨RX3, "sort", "(LLibraryDesk$Places;I)V"⟩
def dkwX3_sort_4 : List UInt8 := [162, 0, 22, 43, 21, 4, 42, 180, 0, 9, 21, 4, 46, 182, 0, 46, 132, 4, 1, 167, 255, 234, 177]
abbrev dktX3_sort_4 : List UInt8 := dkwX3_sort_4 ++ []
def dkwX3_sort_3 : List UInt8 := [42, 180, 0, 9, 3, 29, 184, 0, 63, 21, 4, 5, 104, 54, 4, 167, 255, 182, 3, 54, 4, 21, 4, 29]
abbrev dktX3_sort_3 : List UInt8 := dkwX3_sort_3 ++ dktX3_sort_4
def dkwX3_sort_2 : List UInt8 := [184, 0, 53, 28, 182, 0, 59, 21, 5, 5, 21, 4, 104, 96, 54, 5, 167, 255, 214, 42, 180, 0, 15, 3]
abbrev dktX3_sort_2 : List UInt8 := dkwX3_sort_2 ++ dktX3_sort_3
def dkwX3_sort_1 : List UInt8 := [29, 162, 0, 42, 42, 21, 5, 29, 21, 5, 21, 4, 96, 184, 0, 53, 29, 21, 5, 5, 21, 4, 104, 96]
abbrev dktX3_sort_1 : List UInt8 := dkwX3_sort_1 ++ dktX3_sort_2
def dkwX3_sort_0 : List UInt8 := [42, 43, 42, 180, 0, 9, 182, 0, 39, 62, 4, 54, 4, 21, 4, 29, 162, 0, 74, 3, 54, 5, 21, 5]
abbrev dktX3_sort_0 : List UInt8 := dkwX3_sort_0 ++ dktX3_sort_1
theorem dksX3_sort_0 : cX3_sort.data.toList.drop 0 = dktX3_sort_0 := by decide +kernel
theorem dksX3_sort_1 : cX3_sort.data.toList.drop 24 = dktX3_sort_1 := dk_seg dksX3_sort_0 24 rfl rfl
theorem dksX3_sort_2 : cX3_sort.data.toList.drop 48 = dktX3_sort_2 := dk_seg dksX3_sort_1 24 rfl rfl
theorem dksX3_sort_3 : cX3_sort.data.toList.drop 72 = dktX3_sort_3 := dk_seg dksX3_sort_2 24 rfl rfl
theorem dksX3_sort_4 : cX3_sort.data.toList.drop 96 = dktX3_sort_4 := dk_seg dksX3_sort_3 24 rfl rfl
theorem dX3_sort_0 : decode cX3_sort 0 = .ok (.aload_n 0, 1) := dk_42 (dk_at dksX3_sort_0 0 rfl rfl)
theorem dX3_sort_1 : decode cX3_sort 1 = .ok (.aload_n 1, 1) := dk_43 (dk_at dksX3_sort_0 1 rfl rfl)
theorem dX3_sort_2 : decode cX3_sort 2 = .ok (.aload_n 0, 1) := dk_42 (dk_at dksX3_sort_0 2 rfl rfl)
theorem dX3_sort_3 : decode cX3_sort 3 = .ok (.getfield 9, 3) := dk_180 0 9 (dk_at dksX3_sort_0 3 rfl rfl)
theorem dX3_sort_6 : decode cX3_sort 6 = .ok (.invokevirtual 39, 3) := dk_182 0 39 (dk_at dksX3_sort_0 6 rfl rfl)
theorem dX3_sort_9 : decode cX3_sort 9 = .ok (.istore_n 3, 1) := dk_62 (dk_at dksX3_sort_0 9 rfl rfl)
theorem dX3_sort_10 : decode cX3_sort 10 = .ok (.iconst 1, 1) := dk_4 (dk_at dksX3_sort_0 10 rfl rfl)
theorem dX3_sort_11 : decode cX3_sort 11 = .ok (.istore 4, 2) := dk_54 4 (dk_at dksX3_sort_0 11 rfl rfl)
theorem dX3_sort_13 : decode cX3_sort 13 = .ok (.iload 4, 2) := dk_21 4 (dk_at dksX3_sort_0 13 rfl rfl)
theorem dX3_sort_15 : decode cX3_sort 15 = .ok (.iload_n 3, 1) := dk_29 (dk_at dksX3_sort_0 15 rfl rfl)
theorem dX3_sort_16 : decode cX3_sort 16 = .ok (.if_icmp .ge 74, 3) := dk_162 0 74 (dk_at dksX3_sort_0 16 rfl rfl)
theorem dX3_sort_19 : decode cX3_sort 19 = .ok (.iconst 0, 1) := dk_3 (dk_at dksX3_sort_0 19 rfl rfl)
theorem dX3_sort_20 : decode cX3_sort 20 = .ok (.istore 5, 2) := dk_54 5 (dk_at dksX3_sort_0 20 rfl rfl)
theorem dX3_sort_22 : decode cX3_sort 22 = .ok (.iload 5, 2) := dk_21 5 (dk_at dksX3_sort_0 22 rfl rfl)
theorem dX3_sort_24 : decode cX3_sort 24 = .ok (.iload_n 3, 1) := dk_29 (dk_at dksX3_sort_1 0 rfl rfl)
theorem dX3_sort_25 : decode cX3_sort 25 = .ok (.if_icmp .ge 42, 3) := dk_162 0 42 (dk_at dksX3_sort_1 1 rfl rfl)
theorem dX3_sort_28 : decode cX3_sort 28 = .ok (.aload_n 0, 1) := dk_42 (dk_at dksX3_sort_1 4 rfl rfl)
theorem dX3_sort_29 : decode cX3_sort 29 = .ok (.iload 5, 2) := dk_21 5 (dk_at dksX3_sort_1 5 rfl rfl)
theorem dX3_sort_31 : decode cX3_sort 31 = .ok (.iload_n 3, 1) := dk_29 (dk_at dksX3_sort_1 7 rfl rfl)
theorem dX3_sort_32 : decode cX3_sort 32 = .ok (.iload 5, 2) := dk_21 5 (dk_at dksX3_sort_1 8 rfl rfl)
theorem dX3_sort_34 : decode cX3_sort 34 = .ok (.iload 4, 2) := dk_21 4 (dk_at dksX3_sort_1 10 rfl rfl)
theorem dX3_sort_36 : decode cX3_sort 36 = .ok (.iadd, 1) := dk_96 (dk_at dksX3_sort_1 12 rfl rfl)
theorem dX3_sort_37 : decode cX3_sort 37 = .ok (.invokestatic 53, 3) := dk_184 0 53 (dk_at dksX3_sort_1 13 rfl rfl)
theorem dX3_sort_40 : decode cX3_sort 40 = .ok (.iload_n 3, 1) := dk_29 (dk_at dksX3_sort_1 16 rfl rfl)
theorem dX3_sort_41 : decode cX3_sort 41 = .ok (.iload 5, 2) := dk_21 5 (dk_at dksX3_sort_1 17 rfl rfl)
theorem dX3_sort_43 : decode cX3_sort 43 = .ok (.iconst 2, 1) := dk_5 (dk_at dksX3_sort_1 19 rfl rfl)
theorem dX3_sort_44 : decode cX3_sort 44 = .ok (.iload 4, 2) := dk_21 4 (dk_at dksX3_sort_1 20 rfl rfl)
theorem dX3_sort_46 : decode cX3_sort 46 = .ok (.imul, 1) := dk_104 (dk_at dksX3_sort_1 22 rfl rfl)
theorem dX3_sort_47 : decode cX3_sort 47 = .ok (.iadd, 1) := dk_96 (dk_at dksX3_sort_1 23 rfl rfl)
theorem dX3_sort_48 : decode cX3_sort 48 = .ok (.invokestatic 53, 3) := dk_184 0 53 (dk_at dksX3_sort_2 0 rfl rfl)
theorem dX3_sort_51 : decode cX3_sort 51 = .ok (.iload_n 2, 1) := dk_28 (dk_at dksX3_sort_2 3 rfl rfl)
theorem dX3_sort_52 : decode cX3_sort 52 = .ok (.invokevirtual 59, 3) := dk_182 0 59 (dk_at dksX3_sort_2 4 rfl rfl)
theorem dX3_sort_55 : decode cX3_sort 55 = .ok (.iload 5, 2) := dk_21 5 (dk_at dksX3_sort_2 7 rfl rfl)
theorem dX3_sort_57 : decode cX3_sort 57 = .ok (.iconst 2, 1) := dk_5 (dk_at dksX3_sort_2 9 rfl rfl)
theorem dX3_sort_58 : decode cX3_sort 58 = .ok (.iload 4, 2) := dk_21 4 (dk_at dksX3_sort_2 10 rfl rfl)
theorem dX3_sort_60 : decode cX3_sort 60 = .ok (.imul, 1) := dk_104 (dk_at dksX3_sort_2 12 rfl rfl)
theorem dX3_sort_61 : decode cX3_sort 61 = .ok (.iadd, 1) := dk_96 (dk_at dksX3_sort_2 13 rfl rfl)
theorem dX3_sort_62 : decode cX3_sort 62 = .ok (.istore 5, 2) := dk_54 5 (dk_at dksX3_sort_2 14 rfl rfl)
theorem dX3_sort_64 : decode cX3_sort 64 = .ok (.goto (-42), 3) := dk_167 255 214 (dk_at dksX3_sort_2 16 rfl rfl)
theorem dX3_sort_67 : decode cX3_sort 67 = .ok (.aload_n 0, 1) := dk_42 (dk_at dksX3_sort_2 19 rfl rfl)
theorem dX3_sort_68 : decode cX3_sort 68 = .ok (.getfield 15, 3) := dk_180 0 15 (dk_at dksX3_sort_2 20 rfl rfl)
theorem dX3_sort_71 : decode cX3_sort 71 = .ok (.iconst 0, 1) := dk_3 (dk_at dksX3_sort_2 23 rfl rfl)
theorem dX3_sort_72 : decode cX3_sort 72 = .ok (.aload_n 0, 1) := dk_42 (dk_at dksX3_sort_3 0 rfl rfl)
theorem dX3_sort_73 : decode cX3_sort 73 = .ok (.getfield 9, 3) := dk_180 0 9 (dk_at dksX3_sort_3 1 rfl rfl)
theorem dX3_sort_76 : decode cX3_sort 76 = .ok (.iconst 0, 1) := dk_3 (dk_at dksX3_sort_3 4 rfl rfl)
theorem dX3_sort_77 : decode cX3_sort 77 = .ok (.iload_n 3, 1) := dk_29 (dk_at dksX3_sort_3 5 rfl rfl)
theorem dX3_sort_78 : decode cX3_sort 78 = .ok (.invokestatic 63, 3) := dk_184 0 63 (dk_at dksX3_sort_3 6 rfl rfl)
theorem dX3_sort_81 : decode cX3_sort 81 = .ok (.iload 4, 2) := dk_21 4 (dk_at dksX3_sort_3 9 rfl rfl)
theorem dX3_sort_83 : decode cX3_sort 83 = .ok (.iconst 2, 1) := dk_5 (dk_at dksX3_sort_3 11 rfl rfl)
theorem dX3_sort_84 : decode cX3_sort 84 = .ok (.imul, 1) := dk_104 (dk_at dksX3_sort_3 12 rfl rfl)
theorem dX3_sort_85 : decode cX3_sort 85 = .ok (.istore 4, 2) := dk_54 4 (dk_at dksX3_sort_3 13 rfl rfl)
theorem dX3_sort_87 : decode cX3_sort 87 = .ok (.goto (-74), 3) := dk_167 255 182 (dk_at dksX3_sort_3 15 rfl rfl)
theorem dX3_sort_90 : decode cX3_sort 90 = .ok (.iconst 0, 1) := dk_3 (dk_at dksX3_sort_3 18 rfl rfl)
theorem dX3_sort_91 : decode cX3_sort 91 = .ok (.istore 4, 2) := dk_54 4 (dk_at dksX3_sort_3 19 rfl rfl)
theorem dX3_sort_93 : decode cX3_sort 93 = .ok (.iload 4, 2) := dk_21 4 (dk_at dksX3_sort_3 21 rfl rfl)
theorem dX3_sort_95 : decode cX3_sort 95 = .ok (.iload_n 3, 1) := dk_29 (dk_at dksX3_sort_3 23 rfl rfl)
theorem dX3_sort_96 : decode cX3_sort 96 = .ok (.if_icmp .ge 22, 3) := dk_162 0 22 (dk_at dksX3_sort_4 0 rfl rfl)
theorem dX3_sort_99 : decode cX3_sort 99 = .ok (.aload_n 1, 1) := dk_43 (dk_at dksX3_sort_4 3 rfl rfl)
theorem dX3_sort_100 : decode cX3_sort 100 = .ok (.iload 4, 2) := dk_21 4 (dk_at dksX3_sort_4 4 rfl rfl)
theorem dX3_sort_102 : decode cX3_sort 102 = .ok (.aload_n 0, 1) := dk_42 (dk_at dksX3_sort_4 6 rfl rfl)
theorem dX3_sort_103 : decode cX3_sort 103 = .ok (.getfield 9, 3) := dk_180 0 9 (dk_at dksX3_sort_4 7 rfl rfl)
theorem dX3_sort_106 : decode cX3_sort 106 = .ok (.iload 4, 2) := dk_21 4 (dk_at dksX3_sort_4 10 rfl rfl)
theorem dX3_sort_108 : decode cX3_sort 108 = .ok (.iaload, 1) := dk_46 (dk_at dksX3_sort_4 12 rfl rfl)
theorem dX3_sort_109 : decode cX3_sort 109 = .ok (.invokevirtual 46, 3) := dk_182 0 46 (dk_at dksX3_sort_4 13 rfl rfl)
theorem dX3_sort_112 : decode cX3_sort 112 = .ok (.iinc 4 1, 3) := dk_132 4 1 (dk_at dksX3_sort_4 16 rfl rfl)
theorem dX3_sort_115 : decode cX3_sort 115 = .ok (.goto (-22), 3) := dk_167 255 234 (dk_at dksX3_sort_4 19 rfl rfl)
theorem dX3_sort_118 : decode cX3_sort 118 = .ok (.return_, 1) := dk_177 (dk_at dksX3_sort_4 22 rfl rfl)
abbrev cX3_copy : ByteArray := prog_14_method_3_code
def yX3_copy : MethodName := ⟨RX3, "copy", "(LLibraryDesk$Places;[I)I"⟩
def dkwX3_copy_1 : List UInt8 := [43, 182, 0, 22, 172]
abbrev dktX3_copy_1 : List UInt8 := dkwX3_copy_1 ++ []
def dkwX3_copy_0 : List UInt8 := [3, 62, 29, 43, 182, 0, 22, 162, 0, 17, 44, 29, 43, 29, 182, 0, 28, 79, 132, 3, 1, 167, 255, 237]
abbrev dktX3_copy_0 : List UInt8 := dkwX3_copy_0 ++ dktX3_copy_1
theorem dksX3_copy_0 : cX3_copy.data.toList.drop 0 = dktX3_copy_0 := by decide +kernel
theorem dksX3_copy_1 : cX3_copy.data.toList.drop 24 = dktX3_copy_1 := dk_seg dksX3_copy_0 24 rfl rfl
theorem dX3_copy_0 : decode cX3_copy 0 = .ok (.iconst 0, 1) := dk_3 (dk_at dksX3_copy_0 0 rfl rfl)
theorem dX3_copy_1 : decode cX3_copy 1 = .ok (.istore_n 3, 1) := dk_62 (dk_at dksX3_copy_0 1 rfl rfl)
theorem dX3_copy_2 : decode cX3_copy 2 = .ok (.iload_n 3, 1) := dk_29 (dk_at dksX3_copy_0 2 rfl rfl)
theorem dX3_copy_3 : decode cX3_copy 3 = .ok (.aload_n 1, 1) := dk_43 (dk_at dksX3_copy_0 3 rfl rfl)
theorem dX3_copy_4 : decode cX3_copy 4 = .ok (.invokevirtual 22, 3) := dk_182 0 22 (dk_at dksX3_copy_0 4 rfl rfl)
theorem dX3_copy_7 : decode cX3_copy 7 = .ok (.if_icmp .ge 17, 3) := dk_162 0 17 (dk_at dksX3_copy_0 7 rfl rfl)
theorem dX3_copy_10 : decode cX3_copy 10 = .ok (.aload_n 2, 1) := dk_44 (dk_at dksX3_copy_0 10 rfl rfl)
theorem dX3_copy_11 : decode cX3_copy 11 = .ok (.iload_n 3, 1) := dk_29 (dk_at dksX3_copy_0 11 rfl rfl)
theorem dX3_copy_12 : decode cX3_copy 12 = .ok (.aload_n 1, 1) := dk_43 (dk_at dksX3_copy_0 12 rfl rfl)
theorem dX3_copy_13 : decode cX3_copy 13 = .ok (.iload_n 3, 1) := dk_29 (dk_at dksX3_copy_0 13 rfl rfl)
theorem dX3_copy_14 : decode cX3_copy 14 = .ok (.invokevirtual 28, 3) := dk_182 0 28 (dk_at dksX3_copy_0 14 rfl rfl)
theorem dX3_copy_17 : decode cX3_copy 17 = .ok (.iastore, 1) := dk_79 (dk_at dksX3_copy_0 17 rfl rfl)
theorem dX3_copy_18 : decode cX3_copy 18 = .ok (.iinc 3 1, 3) := dk_132 3 1 (dk_at dksX3_copy_0 18 rfl rfl)
theorem dX3_copy_21 : decode cX3_copy 21 = .ok (.goto (-19), 3) := dk_167 255 237 (dk_at dksX3_copy_0 21 rfl rfl)
theorem dX3_copy_24 : decode cX3_copy 24 = .ok (.aload_n 1, 1) := dk_43 (dk_at dksX3_copy_1 0 rfl rfl)
theorem dX3_copy_25 : decode cX3_copy 25 = .ok (.invokevirtual 22, 3) := dk_182 0 22 (dk_at dksX3_copy_1 1 rfl rfl)
theorem dX3_copy_28 : decode cX3_copy 28 = .ok (.ireturn, 1) := dk_172 (dk_at dksX3_copy_1 4 rfl rfl)
abbrev cX3_merge : ByteArray := prog_14_method_9_code
def yX3_merge : MethodName := ⟨RX3, "merge", "(IIII)V"⟩
def dkwX3_merge_4 : List UInt8 := [132, 5, 1, 167, 0, 6, 132, 6, 1, 132, 7, 1, 167, 255, 163, 177]
abbrev dktX3_merge_4 : List UInt8 := dkwX3_merge_4 ++ []
def dkwX3_merge_3 : List UInt8 := [180, 0, 9, 21, 5, 46, 167, 0, 10, 42, 180, 0, 9, 21, 6, 46, 79, 21, 8, 153, 0, 9]
abbrev dktX3_merge_3 : List UInt8 := dkwX3_merge_3 ++ dktX3_merge_4
def dkwX3_merge_2 : List UInt8 := [157, 0, 7, 4, 167, 0, 4, 3, 54, 8, 42, 180, 0, 15, 21, 7, 21, 8, 153, 0, 13, 42]
abbrev dktX3_merge_2 : List UInt8 := dkwX3_merge_2 ++ dktX3_merge_3
def dkwX3_merge_1 : List UInt8 := [162, 0, 29, 21, 4, 42, 180, 0, 9, 21, 5, 46, 42, 180, 0, 9, 21, 6, 46, 184, 0, 69]
abbrev dktX3_merge_1 : List UInt8 := dkwX3_merge_1 ++ dktX3_merge_2
def dkwX3_merge_0 : List UInt8 := [27, 54, 5, 28, 54, 6, 27, 54, 7, 21, 7, 29, 162, 0, 93, 21, 6, 29, 159, 0, 31, 21, 5, 28]
abbrev dktX3_merge_0 : List UInt8 := dkwX3_merge_0 ++ dktX3_merge_1
theorem dksX3_merge_0 : cX3_merge.data.toList.drop 0 = dktX3_merge_0 := by decide +kernel
theorem dksX3_merge_1 : cX3_merge.data.toList.drop 24 = dktX3_merge_1 := dk_seg dksX3_merge_0 24 rfl rfl
theorem dksX3_merge_2 : cX3_merge.data.toList.drop 46 = dktX3_merge_2 := dk_seg dksX3_merge_1 22 rfl rfl
theorem dksX3_merge_3 : cX3_merge.data.toList.drop 68 = dktX3_merge_3 := dk_seg dksX3_merge_2 22 rfl rfl
theorem dksX3_merge_4 : cX3_merge.data.toList.drop 90 = dktX3_merge_4 := dk_seg dksX3_merge_3 22 rfl rfl
theorem dX3_merge_0 : decode cX3_merge 0 = .ok (.iload_n 1, 1) := dk_27 (dk_at dksX3_merge_0 0 rfl rfl)
theorem dX3_merge_1 : decode cX3_merge 1 = .ok (.istore 5, 2) := dk_54 5 (dk_at dksX3_merge_0 1 rfl rfl)
theorem dX3_merge_3 : decode cX3_merge 3 = .ok (.iload_n 2, 1) := dk_28 (dk_at dksX3_merge_0 3 rfl rfl)
theorem dX3_merge_4 : decode cX3_merge 4 = .ok (.istore 6, 2) := dk_54 6 (dk_at dksX3_merge_0 4 rfl rfl)
theorem dX3_merge_6 : decode cX3_merge 6 = .ok (.iload_n 1, 1) := dk_27 (dk_at dksX3_merge_0 6 rfl rfl)
theorem dX3_merge_7 : decode cX3_merge 7 = .ok (.istore 7, 2) := dk_54 7 (dk_at dksX3_merge_0 7 rfl rfl)
theorem dX3_merge_9 : decode cX3_merge 9 = .ok (.iload 7, 2) := dk_21 7 (dk_at dksX3_merge_0 9 rfl rfl)
theorem dX3_merge_11 : decode cX3_merge 11 = .ok (.iload_n 3, 1) := dk_29 (dk_at dksX3_merge_0 11 rfl rfl)
theorem dX3_merge_12 : decode cX3_merge 12 = .ok (.if_icmp .ge 93, 3) := dk_162 0 93 (dk_at dksX3_merge_0 12 rfl rfl)
theorem dX3_merge_15 : decode cX3_merge 15 = .ok (.iload 6, 2) := dk_21 6 (dk_at dksX3_merge_0 15 rfl rfl)
theorem dX3_merge_17 : decode cX3_merge 17 = .ok (.iload_n 3, 1) := dk_29 (dk_at dksX3_merge_0 17 rfl rfl)
theorem dX3_merge_18 : decode cX3_merge 18 = .ok (.if_icmp .eq 31, 3) := dk_159 0 31 (dk_at dksX3_merge_0 18 rfl rfl)
theorem dX3_merge_21 : decode cX3_merge 21 = .ok (.iload 5, 2) := dk_21 5 (dk_at dksX3_merge_0 21 rfl rfl)
theorem dX3_merge_23 : decode cX3_merge 23 = .ok (.iload_n 2, 1) := dk_28 (dk_at dksX3_merge_0 23 rfl rfl)
theorem dX3_merge_24 : decode cX3_merge 24 = .ok (.if_icmp .ge 29, 3) := dk_162 0 29 (dk_at dksX3_merge_1 0 rfl rfl)
theorem dX3_merge_27 : decode cX3_merge 27 = .ok (.iload 4, 2) := dk_21 4 (dk_at dksX3_merge_1 3 rfl rfl)
theorem dX3_merge_29 : decode cX3_merge 29 = .ok (.aload_n 0, 1) := dk_42 (dk_at dksX3_merge_1 5 rfl rfl)
theorem dX3_merge_30 : decode cX3_merge 30 = .ok (.getfield 9, 3) := dk_180 0 9 (dk_at dksX3_merge_1 6 rfl rfl)
theorem dX3_merge_33 : decode cX3_merge 33 = .ok (.iload 5, 2) := dk_21 5 (dk_at dksX3_merge_1 9 rfl rfl)
theorem dX3_merge_35 : decode cX3_merge 35 = .ok (.iaload, 1) := dk_46 (dk_at dksX3_merge_1 11 rfl rfl)
theorem dX3_merge_36 : decode cX3_merge 36 = .ok (.aload_n 0, 1) := dk_42 (dk_at dksX3_merge_1 12 rfl rfl)
theorem dX3_merge_37 : decode cX3_merge 37 = .ok (.getfield 9, 3) := dk_180 0 9 (dk_at dksX3_merge_1 13 rfl rfl)
theorem dX3_merge_40 : decode cX3_merge 40 = .ok (.iload 6, 2) := dk_21 6 (dk_at dksX3_merge_1 16 rfl rfl)
theorem dX3_merge_42 : decode cX3_merge 42 = .ok (.iaload, 1) := dk_46 (dk_at dksX3_merge_1 18 rfl rfl)
theorem dX3_merge_43 : decode cX3_merge 43 = .ok (.invokestatic 69, 3) := dk_184 0 69 (dk_at dksX3_merge_1 19 rfl rfl)
theorem dX3_merge_46 : decode cX3_merge 46 = .ok (.ifCond .gt 7, 3) := dk_157 0 7 (dk_at dksX3_merge_2 0 rfl rfl)
theorem dX3_merge_49 : decode cX3_merge 49 = .ok (.iconst 1, 1) := dk_4 (dk_at dksX3_merge_2 3 rfl rfl)
theorem dX3_merge_50 : decode cX3_merge 50 = .ok (.goto 4, 3) := dk_167 0 4 (dk_at dksX3_merge_2 4 rfl rfl)
theorem dX3_merge_53 : decode cX3_merge 53 = .ok (.iconst 0, 1) := dk_3 (dk_at dksX3_merge_2 7 rfl rfl)
theorem dX3_merge_54 : decode cX3_merge 54 = .ok (.istore 8, 2) := dk_54 8 (dk_at dksX3_merge_2 8 rfl rfl)
theorem dX3_merge_56 : decode cX3_merge 56 = .ok (.aload_n 0, 1) := dk_42 (dk_at dksX3_merge_2 10 rfl rfl)
theorem dX3_merge_57 : decode cX3_merge 57 = .ok (.getfield 15, 3) := dk_180 0 15 (dk_at dksX3_merge_2 11 rfl rfl)
theorem dX3_merge_60 : decode cX3_merge 60 = .ok (.iload 7, 2) := dk_21 7 (dk_at dksX3_merge_2 14 rfl rfl)
theorem dX3_merge_62 : decode cX3_merge 62 = .ok (.iload 8, 2) := dk_21 8 (dk_at dksX3_merge_2 16 rfl rfl)
theorem dX3_merge_64 : decode cX3_merge 64 = .ok (.ifCond .eq 13, 3) := dk_153 0 13 (dk_at dksX3_merge_2 18 rfl rfl)
theorem dX3_merge_67 : decode cX3_merge 67 = .ok (.aload_n 0, 1) := dk_42 (dk_at dksX3_merge_2 21 rfl rfl)
theorem dX3_merge_68 : decode cX3_merge 68 = .ok (.getfield 9, 3) := dk_180 0 9 (dk_at dksX3_merge_3 0 rfl rfl)
theorem dX3_merge_71 : decode cX3_merge 71 = .ok (.iload 5, 2) := dk_21 5 (dk_at dksX3_merge_3 3 rfl rfl)
theorem dX3_merge_73 : decode cX3_merge 73 = .ok (.iaload, 1) := dk_46 (dk_at dksX3_merge_3 5 rfl rfl)
theorem dX3_merge_74 : decode cX3_merge 74 = .ok (.goto 10, 3) := dk_167 0 10 (dk_at dksX3_merge_3 6 rfl rfl)
theorem dX3_merge_77 : decode cX3_merge 77 = .ok (.aload_n 0, 1) := dk_42 (dk_at dksX3_merge_3 9 rfl rfl)
theorem dX3_merge_78 : decode cX3_merge 78 = .ok (.getfield 9, 3) := dk_180 0 9 (dk_at dksX3_merge_3 10 rfl rfl)
theorem dX3_merge_81 : decode cX3_merge 81 = .ok (.iload 6, 2) := dk_21 6 (dk_at dksX3_merge_3 13 rfl rfl)
theorem dX3_merge_83 : decode cX3_merge 83 = .ok (.iaload, 1) := dk_46 (dk_at dksX3_merge_3 15 rfl rfl)
theorem dX3_merge_84 : decode cX3_merge 84 = .ok (.iastore, 1) := dk_79 (dk_at dksX3_merge_3 16 rfl rfl)
theorem dX3_merge_85 : decode cX3_merge 85 = .ok (.iload 8, 2) := dk_21 8 (dk_at dksX3_merge_3 17 rfl rfl)
theorem dX3_merge_87 : decode cX3_merge 87 = .ok (.ifCond .eq 9, 3) := dk_153 0 9 (dk_at dksX3_merge_3 19 rfl rfl)
theorem dX3_merge_90 : decode cX3_merge 90 = .ok (.iinc 5 1, 3) := dk_132 5 1 (dk_at dksX3_merge_4 0 rfl rfl)
theorem dX3_merge_93 : decode cX3_merge 93 = .ok (.goto 6, 3) := dk_167 0 6 (dk_at dksX3_merge_4 3 rfl rfl)
theorem dX3_merge_96 : decode cX3_merge 96 = .ok (.iinc 6 1, 3) := dk_132 6 1 (dk_at dksX3_merge_4 6 rfl rfl)
theorem dX3_merge_99 : decode cX3_merge 99 = .ok (.iinc 7 1, 3) := dk_132 7 1 (dk_at dksX3_merge_4 9 rfl rfl)
theorem dX3_merge_102 : decode cX3_merge 102 = .ok (.goto (-93), 3) := dk_167 255 163 (dk_at dksX3_merge_4 12 rfl rfl)
theorem dX3_merge_105 : decode cX3_merge 105 = .ok (.return_, 1) := dk_177 (dk_at dksX3_merge_4 15 rfl rfl)
abbrev cX3_rotate : ByteArray := prog_14_method_12_code
def yX3_rotate : MethodName := ⟨RX3, "rotate", "(LLibraryDesk$Places;I)V"⟩
def dkwX3_rotate_2 : List UInt8 := [167, 255, 222, 177]
abbrev dktX3_rotate_2 : List UInt8 := dkwX3_rotate_2 ++ []
def dkwX3_rotate_1 : List UInt8 := [29, 184, 0, 79, 133, 97, 29, 133, 113, 136, 42, 180, 0, 9, 21, 4, 46, 182, 0, 46, 132, 4, 1]
abbrev dktX3_rotate_1 : List UInt8 := dkwX3_rotate_1 ++ dktX3_rotate_2
def dkwX3_rotate_0 : List UInt8 := [42, 43, 42, 180, 0, 9, 182, 0, 39, 62, 3, 54, 4, 21, 4, 29, 162, 0, 34, 43, 21, 4, 133, 28]
abbrev dktX3_rotate_0 : List UInt8 := dkwX3_rotate_0 ++ dktX3_rotate_1
theorem dksX3_rotate_0 : cX3_rotate.data.toList.drop 0 = dktX3_rotate_0 := by decide +kernel
theorem dksX3_rotate_1 : cX3_rotate.data.toList.drop 24 = dktX3_rotate_1 := dk_seg dksX3_rotate_0 24 rfl rfl
theorem dksX3_rotate_2 : cX3_rotate.data.toList.drop 47 = dktX3_rotate_2 := dk_seg dksX3_rotate_1 23 rfl rfl
theorem dX3_rotate_0 : decode cX3_rotate 0 = .ok (.aload_n 0, 1) := dk_42 (dk_at dksX3_rotate_0 0 rfl rfl)
theorem dX3_rotate_1 : decode cX3_rotate 1 = .ok (.aload_n 1, 1) := dk_43 (dk_at dksX3_rotate_0 1 rfl rfl)
theorem dX3_rotate_2 : decode cX3_rotate 2 = .ok (.aload_n 0, 1) := dk_42 (dk_at dksX3_rotate_0 2 rfl rfl)
theorem dX3_rotate_3 : decode cX3_rotate 3 = .ok (.getfield 9, 3) := dk_180 0 9 (dk_at dksX3_rotate_0 3 rfl rfl)
theorem dX3_rotate_6 : decode cX3_rotate 6 = .ok (.invokevirtual 39, 3) := dk_182 0 39 (dk_at dksX3_rotate_0 6 rfl rfl)
theorem dX3_rotate_9 : decode cX3_rotate 9 = .ok (.istore_n 3, 1) := dk_62 (dk_at dksX3_rotate_0 9 rfl rfl)
theorem dX3_rotate_10 : decode cX3_rotate 10 = .ok (.iconst 0, 1) := dk_3 (dk_at dksX3_rotate_0 10 rfl rfl)
theorem dX3_rotate_11 : decode cX3_rotate 11 = .ok (.istore 4, 2) := dk_54 4 (dk_at dksX3_rotate_0 11 rfl rfl)
theorem dX3_rotate_13 : decode cX3_rotate 13 = .ok (.iload 4, 2) := dk_21 4 (dk_at dksX3_rotate_0 13 rfl rfl)
theorem dX3_rotate_15 : decode cX3_rotate 15 = .ok (.iload_n 3, 1) := dk_29 (dk_at dksX3_rotate_0 15 rfl rfl)
theorem dX3_rotate_16 : decode cX3_rotate 16 = .ok (.if_icmp .ge 34, 3) := dk_162 0 34 (dk_at dksX3_rotate_0 16 rfl rfl)
theorem dX3_rotate_19 : decode cX3_rotate 19 = .ok (.aload_n 1, 1) := dk_43 (dk_at dksX3_rotate_0 19 rfl rfl)
theorem dX3_rotate_20 : decode cX3_rotate 20 = .ok (.iload 4, 2) := dk_21 4 (dk_at dksX3_rotate_0 20 rfl rfl)
theorem dX3_rotate_22 : decode cX3_rotate 22 = .ok (.i2l, 1) := dk_133 (dk_at dksX3_rotate_0 22 rfl rfl)
theorem dX3_rotate_23 : decode cX3_rotate 23 = .ok (.iload_n 2, 1) := dk_28 (dk_at dksX3_rotate_0 23 rfl rfl)
theorem dX3_rotate_24 : decode cX3_rotate 24 = .ok (.iload_n 3, 1) := dk_29 (dk_at dksX3_rotate_1 0 rfl rfl)
theorem dX3_rotate_25 : decode cX3_rotate 25 = .ok (.invokestatic 79, 3) := dk_184 0 79 (dk_at dksX3_rotate_1 1 rfl rfl)
theorem dX3_rotate_28 : decode cX3_rotate 28 = .ok (.i2l, 1) := dk_133 (dk_at dksX3_rotate_1 4 rfl rfl)
theorem dX3_rotate_29 : decode cX3_rotate 29 = .ok (.ladd, 1) := dk_97 (dk_at dksX3_rotate_1 5 rfl rfl)
theorem dX3_rotate_30 : decode cX3_rotate 30 = .ok (.iload_n 3, 1) := dk_29 (dk_at dksX3_rotate_1 6 rfl rfl)
theorem dX3_rotate_31 : decode cX3_rotate 31 = .ok (.i2l, 1) := dk_133 (dk_at dksX3_rotate_1 7 rfl rfl)
theorem dX3_rotate_32 : decode cX3_rotate 32 = .ok (.lrem, 1) := dk_113 (dk_at dksX3_rotate_1 8 rfl rfl)
theorem dX3_rotate_33 : decode cX3_rotate 33 = .ok (.l2i, 1) := dk_136 (dk_at dksX3_rotate_1 9 rfl rfl)
theorem dX3_rotate_34 : decode cX3_rotate 34 = .ok (.aload_n 0, 1) := dk_42 (dk_at dksX3_rotate_1 10 rfl rfl)
theorem dX3_rotate_35 : decode cX3_rotate 35 = .ok (.getfield 9, 3) := dk_180 0 9 (dk_at dksX3_rotate_1 11 rfl rfl)
theorem dX3_rotate_38 : decode cX3_rotate 38 = .ok (.iload 4, 2) := dk_21 4 (dk_at dksX3_rotate_1 14 rfl rfl)
theorem dX3_rotate_40 : decode cX3_rotate 40 = .ok (.iaload, 1) := dk_46 (dk_at dksX3_rotate_1 16 rfl rfl)
theorem dX3_rotate_41 : decode cX3_rotate 41 = .ok (.invokevirtual 46, 3) := dk_182 0 46 (dk_at dksX3_rotate_1 17 rfl rfl)
theorem dX3_rotate_44 : decode cX3_rotate 44 = .ok (.iinc 4 1, 3) := dk_132 4 1 (dk_at dksX3_rotate_1 20 rfl rfl)
theorem dX3_rotate_47 : decode cX3_rotate 47 = .ok (.goto (-34), 3) := dk_167 255 222 (dk_at dksX3_rotate_2 0 rfl rfl)
theorem dX3_rotate_50 : decode cX3_rotate 50 = .ok (.return_, 1) := dk_177 (dk_at dksX3_rotate_2 3 rfl rfl)
abbrev cX3_shuffle : ByteArray := prog_14_method_13_code
def yX3_shuffle : MethodName := ⟨RX3, "shuffle", "(LLibraryDesk$Places;I)V"⟩
def dkwX3_shuffle_1 : List UInt8 := [184, 0, 85, 184, 0, 75, 132, 3, 255, 167, 255, 232, 177]
abbrev dktX3_shuffle_1 : List UInt8 := dkwX3_shuffle_1 ++ []
def dkwX3_shuffle_0 : List UInt8 := [27, 61, 42, 182, 0, 22, 4, 100, 62, 29, 158, 0, 26, 28, 184, 0, 82, 61, 42, 29, 28, 29, 4, 96]
abbrev dktX3_shuffle_0 : List UInt8 := dkwX3_shuffle_0 ++ dktX3_shuffle_1
theorem dksX3_shuffle_0 : cX3_shuffle.data.toList.drop 0 = dktX3_shuffle_0 := by decide +kernel
theorem dksX3_shuffle_1 : cX3_shuffle.data.toList.drop 24 = dktX3_shuffle_1 := dk_seg dksX3_shuffle_0 24 rfl rfl
theorem dX3_shuffle_0 : decode cX3_shuffle 0 = .ok (.iload_n 1, 1) := dk_27 (dk_at dksX3_shuffle_0 0 rfl rfl)
theorem dX3_shuffle_1 : decode cX3_shuffle 1 = .ok (.istore_n 2, 1) := dk_61 (dk_at dksX3_shuffle_0 1 rfl rfl)
theorem dX3_shuffle_2 : decode cX3_shuffle 2 = .ok (.aload_n 0, 1) := dk_42 (dk_at dksX3_shuffle_0 2 rfl rfl)
theorem dX3_shuffle_3 : decode cX3_shuffle 3 = .ok (.invokevirtual 22, 3) := dk_182 0 22 (dk_at dksX3_shuffle_0 3 rfl rfl)
theorem dX3_shuffle_6 : decode cX3_shuffle 6 = .ok (.iconst 1, 1) := dk_4 (dk_at dksX3_shuffle_0 6 rfl rfl)
theorem dX3_shuffle_7 : decode cX3_shuffle 7 = .ok (.isub, 1) := dk_100 (dk_at dksX3_shuffle_0 7 rfl rfl)
theorem dX3_shuffle_8 : decode cX3_shuffle 8 = .ok (.istore_n 3, 1) := dk_62 (dk_at dksX3_shuffle_0 8 rfl rfl)
theorem dX3_shuffle_9 : decode cX3_shuffle 9 = .ok (.iload_n 3, 1) := dk_29 (dk_at dksX3_shuffle_0 9 rfl rfl)
theorem dX3_shuffle_10 : decode cX3_shuffle 10 = .ok (.ifCond .le 26, 3) := dk_158 0 26 (dk_at dksX3_shuffle_0 10 rfl rfl)
theorem dX3_shuffle_13 : decode cX3_shuffle 13 = .ok (.iload_n 2, 1) := dk_28 (dk_at dksX3_shuffle_0 13 rfl rfl)
theorem dX3_shuffle_14 : decode cX3_shuffle 14 = .ok (.invokestatic 82, 3) := dk_184 0 82 (dk_at dksX3_shuffle_0 14 rfl rfl)
theorem dX3_shuffle_17 : decode cX3_shuffle 17 = .ok (.istore_n 2, 1) := dk_61 (dk_at dksX3_shuffle_0 17 rfl rfl)
theorem dX3_shuffle_18 : decode cX3_shuffle 18 = .ok (.aload_n 0, 1) := dk_42 (dk_at dksX3_shuffle_0 18 rfl rfl)
theorem dX3_shuffle_19 : decode cX3_shuffle 19 = .ok (.iload_n 3, 1) := dk_29 (dk_at dksX3_shuffle_0 19 rfl rfl)
theorem dX3_shuffle_20 : decode cX3_shuffle 20 = .ok (.iload_n 2, 1) := dk_28 (dk_at dksX3_shuffle_0 20 rfl rfl)
theorem dX3_shuffle_21 : decode cX3_shuffle 21 = .ok (.iload_n 3, 1) := dk_29 (dk_at dksX3_shuffle_0 21 rfl rfl)
theorem dX3_shuffle_22 : decode cX3_shuffle 22 = .ok (.iconst 1, 1) := dk_4 (dk_at dksX3_shuffle_0 22 rfl rfl)
theorem dX3_shuffle_23 : decode cX3_shuffle 23 = .ok (.iadd, 1) := dk_96 (dk_at dksX3_shuffle_0 23 rfl rfl)
theorem dX3_shuffle_24 : decode cX3_shuffle 24 = .ok (.invokestatic 85, 3) := dk_184 0 85 (dk_at dksX3_shuffle_1 0 rfl rfl)
theorem dX3_shuffle_27 : decode cX3_shuffle 27 = .ok (.invokestatic 75, 3) := dk_184 0 75 (dk_at dksX3_shuffle_1 3 rfl rfl)
theorem dX3_shuffle_30 : decode cX3_shuffle 30 = .ok (.iinc 3 (-1), 3) := dk_132 3 255 (dk_at dksX3_shuffle_1 6 rfl rfl)
theorem dX3_shuffle_33 : decode cX3_shuffle 33 = .ok (.goto (-24), 3) := dk_167 255 232 (dk_at dksX3_shuffle_1 9 rfl rfl)
theorem dX3_shuffle_36 : decode cX3_shuffle 36 = .ok (.return_, 1) := dk_177 (dk_at dksX3_shuffle_1 12 rfl rfl)
abbrev cX3_addAll : ByteArray := prog_14_method_5_code
def yX3_addAll : MethodName := ⟨RX3, "addAll", "(LLibraryDesk$Places;ILLibraryDesk$Places;)I"⟩
def dkwX3_addAll_3 : List UInt8 := [21, 4, 172]
abbrev dktX3_addAll_3 : List UInt8 := dkwX3_addAll_3 ++ []
def dkwX3_addAll_2 : List UInt8 := [162, 0, 24, 43, 28, 21, 5, 96, 42, 180, 0, 15, 21, 5, 46, 182, 0, 46, 132, 5, 1, 167, 255, 231]
abbrev dktX3_addAll_2 : List UInt8 := dkwX3_addAll_2 ++ dktX3_addAll_3
def dkwX3_addAll_1 : List UInt8 := [180, 0, 15, 182, 0, 39, 54, 4, 43, 28, 21, 4, 182, 0, 43, 3, 54, 5, 21, 5, 21, 4]
abbrev dktX3_addAll_1 : List UInt8 := dkwX3_addAll_1 ++ dktX3_addAll_2
def dkwX3_addAll_0 : List UInt8 := [28, 155, 0, 15, 28, 43, 182, 0, 22, 163, 0, 7, 4, 167, 0, 4, 3, 184, 0, 36, 42, 45, 42]
abbrev dktX3_addAll_0 : List UInt8 := dkwX3_addAll_0 ++ dktX3_addAll_1
theorem dksX3_addAll_0 : cX3_addAll.data.toList.drop 0 = dktX3_addAll_0 := by decide +kernel
theorem dksX3_addAll_1 : cX3_addAll.data.toList.drop 23 = dktX3_addAll_1 := dk_seg dksX3_addAll_0 23 rfl rfl
theorem dksX3_addAll_2 : cX3_addAll.data.toList.drop 45 = dktX3_addAll_2 := dk_seg dksX3_addAll_1 22 rfl rfl
theorem dksX3_addAll_3 : cX3_addAll.data.toList.drop 69 = dktX3_addAll_3 := dk_seg dksX3_addAll_2 24 rfl rfl
theorem dX3_addAll_0 : decode cX3_addAll 0 = .ok (.iload_n 2, 1) := dk_28 (dk_at dksX3_addAll_0 0 rfl rfl)
theorem dX3_addAll_1 : decode cX3_addAll 1 = .ok (.ifCond .lt 15, 3) := dk_155 0 15 (dk_at dksX3_addAll_0 1 rfl rfl)
theorem dX3_addAll_4 : decode cX3_addAll 4 = .ok (.iload_n 2, 1) := dk_28 (dk_at dksX3_addAll_0 4 rfl rfl)
theorem dX3_addAll_5 : decode cX3_addAll 5 = .ok (.aload_n 1, 1) := dk_43 (dk_at dksX3_addAll_0 5 rfl rfl)
theorem dX3_addAll_6 : decode cX3_addAll 6 = .ok (.invokevirtual 22, 3) := dk_182 0 22 (dk_at dksX3_addAll_0 6 rfl rfl)
theorem dX3_addAll_9 : decode cX3_addAll 9 = .ok (.if_icmp .gt 7, 3) := dk_163 0 7 (dk_at dksX3_addAll_0 9 rfl rfl)
theorem dX3_addAll_12 : decode cX3_addAll 12 = .ok (.iconst 1, 1) := dk_4 (dk_at dksX3_addAll_0 12 rfl rfl)
theorem dX3_addAll_13 : decode cX3_addAll 13 = .ok (.goto 4, 3) := dk_167 0 4 (dk_at dksX3_addAll_0 13 rfl rfl)
theorem dX3_addAll_16 : decode cX3_addAll 16 = .ok (.iconst 0, 1) := dk_3 (dk_at dksX3_addAll_0 16 rfl rfl)
theorem dX3_addAll_17 : decode cX3_addAll 17 = .ok (.invokestatic 36, 3) := dk_184 0 36 (dk_at dksX3_addAll_0 17 rfl rfl)
theorem dX3_addAll_20 : decode cX3_addAll 20 = .ok (.aload_n 0, 1) := dk_42 (dk_at dksX3_addAll_0 20 rfl rfl)
theorem dX3_addAll_21 : decode cX3_addAll 21 = .ok (.aload_n 3, 1) := dk_45 (dk_at dksX3_addAll_0 21 rfl rfl)
theorem dX3_addAll_22 : decode cX3_addAll 22 = .ok (.aload_n 0, 1) := dk_42 (dk_at dksX3_addAll_0 22 rfl rfl)
theorem dX3_addAll_23 : decode cX3_addAll 23 = .ok (.getfield 15, 3) := dk_180 0 15 (dk_at dksX3_addAll_1 0 rfl rfl)
theorem dX3_addAll_26 : decode cX3_addAll 26 = .ok (.invokevirtual 39, 3) := dk_182 0 39 (dk_at dksX3_addAll_1 3 rfl rfl)
theorem dX3_addAll_29 : decode cX3_addAll 29 = .ok (.istore 4, 2) := dk_54 4 (dk_at dksX3_addAll_1 6 rfl rfl)
theorem dX3_addAll_31 : decode cX3_addAll 31 = .ok (.aload_n 1, 1) := dk_43 (dk_at dksX3_addAll_1 8 rfl rfl)
theorem dX3_addAll_32 : decode cX3_addAll 32 = .ok (.iload_n 2, 1) := dk_28 (dk_at dksX3_addAll_1 9 rfl rfl)
theorem dX3_addAll_33 : decode cX3_addAll 33 = .ok (.iload 4, 2) := dk_21 4 (dk_at dksX3_addAll_1 10 rfl rfl)
theorem dX3_addAll_35 : decode cX3_addAll 35 = .ok (.invokevirtual 43, 3) := dk_182 0 43 (dk_at dksX3_addAll_1 12 rfl rfl)
theorem dX3_addAll_38 : decode cX3_addAll 38 = .ok (.iconst 0, 1) := dk_3 (dk_at dksX3_addAll_1 15 rfl rfl)
theorem dX3_addAll_39 : decode cX3_addAll 39 = .ok (.istore 5, 2) := dk_54 5 (dk_at dksX3_addAll_1 16 rfl rfl)
theorem dX3_addAll_41 : decode cX3_addAll 41 = .ok (.iload 5, 2) := dk_21 5 (dk_at dksX3_addAll_1 18 rfl rfl)
theorem dX3_addAll_43 : decode cX3_addAll 43 = .ok (.iload 4, 2) := dk_21 4 (dk_at dksX3_addAll_1 20 rfl rfl)
theorem dX3_addAll_45 : decode cX3_addAll 45 = .ok (.if_icmp .ge 24, 3) := dk_162 0 24 (dk_at dksX3_addAll_2 0 rfl rfl)
theorem dX3_addAll_48 : decode cX3_addAll 48 = .ok (.aload_n 1, 1) := dk_43 (dk_at dksX3_addAll_2 3 rfl rfl)
theorem dX3_addAll_49 : decode cX3_addAll 49 = .ok (.iload_n 2, 1) := dk_28 (dk_at dksX3_addAll_2 4 rfl rfl)
theorem dX3_addAll_50 : decode cX3_addAll 50 = .ok (.iload 5, 2) := dk_21 5 (dk_at dksX3_addAll_2 5 rfl rfl)
theorem dX3_addAll_52 : decode cX3_addAll 52 = .ok (.iadd, 1) := dk_96 (dk_at dksX3_addAll_2 7 rfl rfl)
theorem dX3_addAll_53 : decode cX3_addAll 53 = .ok (.aload_n 0, 1) := dk_42 (dk_at dksX3_addAll_2 8 rfl rfl)
theorem dX3_addAll_54 : decode cX3_addAll 54 = .ok (.getfield 15, 3) := dk_180 0 15 (dk_at dksX3_addAll_2 9 rfl rfl)
theorem dX3_addAll_57 : decode cX3_addAll 57 = .ok (.iload 5, 2) := dk_21 5 (dk_at dksX3_addAll_2 12 rfl rfl)
theorem dX3_addAll_59 : decode cX3_addAll 59 = .ok (.iaload, 1) := dk_46 (dk_at dksX3_addAll_2 14 rfl rfl)
theorem dX3_addAll_60 : decode cX3_addAll 60 = .ok (.invokevirtual 46, 3) := dk_182 0 46 (dk_at dksX3_addAll_2 15 rfl rfl)
theorem dX3_addAll_63 : decode cX3_addAll 63 = .ok (.iinc 5 1, 3) := dk_132 5 1 (dk_at dksX3_addAll_2 18 rfl rfl)
theorem dX3_addAll_66 : decode cX3_addAll 66 = .ok (.goto (-25), 3) := dk_167 255 231 (dk_at dksX3_addAll_2 21 rfl rfl)
theorem dX3_addAll_69 : decode cX3_addAll 69 = .ok (.iload 4, 2) := dk_21 4 (dk_at dksX3_addAll_3 0 rfl rfl)
theorem dX3_addAll_71 : decode cX3_addAll 71 = .ok (.ireturn, 1) := dk_172 (dk_at dksX3_addAll_3 2 rfl rfl)
abbrev cX3_same : ByteArray := prog_14_method_20_code
def yX3_same : MethodName := ⟨RX3, "same", "(LLibraryDesk$Places;LLibraryDesk$Places;)I"⟩
def dkwX3_same_1 : List UInt8 := [28, 182, 0, 28, 43, 28, 182, 0, 28, 159, 0, 5, 3, 172, 132, 2, 1, 167, 255, 230, 4, 172]
abbrev dktX3_same_1 : List UInt8 := dkwX3_same_1 ++ []
def dkwX3_same_0 : List UInt8 := [42, 182, 0, 22, 43, 182, 0, 22, 159, 0, 5, 3, 172, 3, 61, 28, 42, 182, 0, 22, 162, 0, 24, 42]
abbrev dktX3_same_0 : List UInt8 := dkwX3_same_0 ++ dktX3_same_1
theorem dksX3_same_0 : cX3_same.data.toList.drop 0 = dktX3_same_0 := by decide +kernel
theorem dksX3_same_1 : cX3_same.data.toList.drop 24 = dktX3_same_1 := dk_seg dksX3_same_0 24 rfl rfl
theorem dX3_same_0 : decode cX3_same 0 = .ok (.aload_n 0, 1) := dk_42 (dk_at dksX3_same_0 0 rfl rfl)
theorem dX3_same_1 : decode cX3_same 1 = .ok (.invokevirtual 22, 3) := dk_182 0 22 (dk_at dksX3_same_0 1 rfl rfl)
theorem dX3_same_4 : decode cX3_same 4 = .ok (.aload_n 1, 1) := dk_43 (dk_at dksX3_same_0 4 rfl rfl)
theorem dX3_same_5 : decode cX3_same 5 = .ok (.invokevirtual 22, 3) := dk_182 0 22 (dk_at dksX3_same_0 5 rfl rfl)
theorem dX3_same_8 : decode cX3_same 8 = .ok (.if_icmp .eq 5, 3) := dk_159 0 5 (dk_at dksX3_same_0 8 rfl rfl)
theorem dX3_same_11 : decode cX3_same 11 = .ok (.iconst 0, 1) := dk_3 (dk_at dksX3_same_0 11 rfl rfl)
theorem dX3_same_12 : decode cX3_same 12 = .ok (.ireturn, 1) := dk_172 (dk_at dksX3_same_0 12 rfl rfl)
theorem dX3_same_13 : decode cX3_same 13 = .ok (.iconst 0, 1) := dk_3 (dk_at dksX3_same_0 13 rfl rfl)
theorem dX3_same_14 : decode cX3_same 14 = .ok (.istore_n 2, 1) := dk_61 (dk_at dksX3_same_0 14 rfl rfl)
theorem dX3_same_15 : decode cX3_same 15 = .ok (.iload_n 2, 1) := dk_28 (dk_at dksX3_same_0 15 rfl rfl)
theorem dX3_same_16 : decode cX3_same 16 = .ok (.aload_n 0, 1) := dk_42 (dk_at dksX3_same_0 16 rfl rfl)
theorem dX3_same_17 : decode cX3_same 17 = .ok (.invokevirtual 22, 3) := dk_182 0 22 (dk_at dksX3_same_0 17 rfl rfl)
theorem dX3_same_20 : decode cX3_same 20 = .ok (.if_icmp .ge 24, 3) := dk_162 0 24 (dk_at dksX3_same_0 20 rfl rfl)
theorem dX3_same_23 : decode cX3_same 23 = .ok (.aload_n 0, 1) := dk_42 (dk_at dksX3_same_0 23 rfl rfl)
theorem dX3_same_24 : decode cX3_same 24 = .ok (.iload_n 2, 1) := dk_28 (dk_at dksX3_same_1 0 rfl rfl)
theorem dX3_same_25 : decode cX3_same 25 = .ok (.invokevirtual 28, 3) := dk_182 0 28 (dk_at dksX3_same_1 1 rfl rfl)
theorem dX3_same_28 : decode cX3_same 28 = .ok (.aload_n 1, 1) := dk_43 (dk_at dksX3_same_1 4 rfl rfl)
theorem dX3_same_29 : decode cX3_same 29 = .ok (.iload_n 2, 1) := dk_28 (dk_at dksX3_same_1 5 rfl rfl)
theorem dX3_same_30 : decode cX3_same 30 = .ok (.invokevirtual 28, 3) := dk_182 0 28 (dk_at dksX3_same_1 6 rfl rfl)
theorem dX3_same_33 : decode cX3_same 33 = .ok (.if_icmp .eq 5, 3) := dk_159 0 5 (dk_at dksX3_same_1 9 rfl rfl)
theorem dX3_same_36 : decode cX3_same 36 = .ok (.iconst 0, 1) := dk_3 (dk_at dksX3_same_1 12 rfl rfl)
theorem dX3_same_37 : decode cX3_same 37 = .ok (.ireturn, 1) := dk_172 (dk_at dksX3_same_1 13 rfl rfl)
theorem dX3_same_38 : decode cX3_same 38 = .ok (.iinc 2 1, 3) := dk_132 2 1 (dk_at dksX3_same_1 14 rfl rfl)
theorem dX3_same_41 : decode cX3_same 41 = .ok (.goto (-26), 3) := dk_167 255 230 (dk_at dksX3_same_1 17 rfl rfl)
theorem dX3_same_44 : decode cX3_same 44 = .ok (.iconst 1, 1) := dk_4 (dk_at dksX3_same_1 20 rfl rfl)
theorem dX3_same_45 : decode cX3_same 45 = .ok (.ireturn, 1) := dk_172 (dk_at dksX3_same_1 21 rfl rfl)
abbrev cX3_removeAll : ByteArray := prog_14_method_6_code
def yX3_removeAll : MethodName := ⟨RX3, "removeAll", "(LLibraryDesk$Places;LLibraryDesk$Places;Z)I"⟩
def dkwX3_removeAll_4 : List UInt8 := [182, 0, 46, 132, 7, 1, 167, 255, 233, 43, 21, 5, 21, 6, 182, 0, 32, 21, 6, 172]
abbrev dktX3_removeAll_4 : List UInt8 := dkwX3_removeAll_4 ++ []
def dkwX3_removeAll_3 : List UInt8 := [54, 6, 3, 54, 7, 21, 7, 21, 5, 162, 0, 22, 43, 21, 7, 42, 180, 0, 9, 21, 7, 46]
abbrev dktX3_removeAll_3 : List UInt8 := dkwX3_removeAll_3 ++ dktX3_removeAll_4
def dkwX3_removeAll_2 : List UInt8 := [180, 0, 9, 21, 5, 21, 7, 79, 132, 5, 1, 132, 6, 1, 167, 255, 212, 43, 182, 0, 22, 21, 5, 100]
abbrev dktX3_removeAll_2 : List UInt8 := dkwX3_removeAll_2 ++ dktX3_removeAll_3
def dkwX3_removeAll_1 : List UInt8 := [162, 0, 41, 43, 21, 6, 182, 0, 28, 54, 7, 42, 21, 7, 21, 4, 182, 0, 49, 29, 159, 0, 15, 42]
abbrev dktX3_removeAll_1 : List UInt8 := dkwX3_removeAll_1 ++ dktX3_removeAll_2
def dkwX3_removeAll_0 : List UInt8 := [42, 44, 42, 180, 0, 15, 182, 0, 39, 54, 4, 3, 54, 5, 3, 54, 6, 21, 6, 43, 182, 0, 22]
abbrev dktX3_removeAll_0 : List UInt8 := dkwX3_removeAll_0 ++ dktX3_removeAll_1
theorem dksX3_removeAll_0 : cX3_removeAll.data.toList.drop 0 = dktX3_removeAll_0 := by decide +kernel
theorem dksX3_removeAll_1 : cX3_removeAll.data.toList.drop 23 = dktX3_removeAll_1 := dk_seg dksX3_removeAll_0 23 rfl rfl
theorem dksX3_removeAll_2 : cX3_removeAll.data.toList.drop 47 = dktX3_removeAll_2 := dk_seg dksX3_removeAll_1 24 rfl rfl
theorem dksX3_removeAll_3 : cX3_removeAll.data.toList.drop 71 = dktX3_removeAll_3 := dk_seg dksX3_removeAll_2 24 rfl rfl
theorem dksX3_removeAll_4 : cX3_removeAll.data.toList.drop 93 = dktX3_removeAll_4 := dk_seg dksX3_removeAll_3 22 rfl rfl
theorem dX3_removeAll_0 : decode cX3_removeAll 0 = .ok (.aload_n 0, 1) := dk_42 (dk_at dksX3_removeAll_0 0 rfl rfl)
theorem dX3_removeAll_1 : decode cX3_removeAll 1 = .ok (.aload_n 2, 1) := dk_44 (dk_at dksX3_removeAll_0 1 rfl rfl)
theorem dX3_removeAll_2 : decode cX3_removeAll 2 = .ok (.aload_n 0, 1) := dk_42 (dk_at dksX3_removeAll_0 2 rfl rfl)
theorem dX3_removeAll_3 : decode cX3_removeAll 3 = .ok (.getfield 15, 3) := dk_180 0 15 (dk_at dksX3_removeAll_0 3 rfl rfl)
theorem dX3_removeAll_6 : decode cX3_removeAll 6 = .ok (.invokevirtual 39, 3) := dk_182 0 39 (dk_at dksX3_removeAll_0 6 rfl rfl)
theorem dX3_removeAll_9 : decode cX3_removeAll 9 = .ok (.istore 4, 2) := dk_54 4 (dk_at dksX3_removeAll_0 9 rfl rfl)
theorem dX3_removeAll_11 : decode cX3_removeAll 11 = .ok (.iconst 0, 1) := dk_3 (dk_at dksX3_removeAll_0 11 rfl rfl)
theorem dX3_removeAll_12 : decode cX3_removeAll 12 = .ok (.istore 5, 2) := dk_54 5 (dk_at dksX3_removeAll_0 12 rfl rfl)
theorem dX3_removeAll_14 : decode cX3_removeAll 14 = .ok (.iconst 0, 1) := dk_3 (dk_at dksX3_removeAll_0 14 rfl rfl)
theorem dX3_removeAll_15 : decode cX3_removeAll 15 = .ok (.istore 6, 2) := dk_54 6 (dk_at dksX3_removeAll_0 15 rfl rfl)
theorem dX3_removeAll_17 : decode cX3_removeAll 17 = .ok (.iload 6, 2) := dk_21 6 (dk_at dksX3_removeAll_0 17 rfl rfl)
theorem dX3_removeAll_19 : decode cX3_removeAll 19 = .ok (.aload_n 1, 1) := dk_43 (dk_at dksX3_removeAll_0 19 rfl rfl)
theorem dX3_removeAll_20 : decode cX3_removeAll 20 = .ok (.invokevirtual 22, 3) := dk_182 0 22 (dk_at dksX3_removeAll_0 20 rfl rfl)
theorem dX3_removeAll_23 : decode cX3_removeAll 23 = .ok (.if_icmp .ge 41, 3) := dk_162 0 41 (dk_at dksX3_removeAll_1 0 rfl rfl)
theorem dX3_removeAll_26 : decode cX3_removeAll 26 = .ok (.aload_n 1, 1) := dk_43 (dk_at dksX3_removeAll_1 3 rfl rfl)
theorem dX3_removeAll_27 : decode cX3_removeAll 27 = .ok (.iload 6, 2) := dk_21 6 (dk_at dksX3_removeAll_1 4 rfl rfl)
theorem dX3_removeAll_29 : decode cX3_removeAll 29 = .ok (.invokevirtual 28, 3) := dk_182 0 28 (dk_at dksX3_removeAll_1 6 rfl rfl)
theorem dX3_removeAll_32 : decode cX3_removeAll 32 = .ok (.istore 7, 2) := dk_54 7 (dk_at dksX3_removeAll_1 9 rfl rfl)
theorem dX3_removeAll_34 : decode cX3_removeAll 34 = .ok (.aload_n 0, 1) := dk_42 (dk_at dksX3_removeAll_1 11 rfl rfl)
theorem dX3_removeAll_35 : decode cX3_removeAll 35 = .ok (.iload 7, 2) := dk_21 7 (dk_at dksX3_removeAll_1 12 rfl rfl)
theorem dX3_removeAll_37 : decode cX3_removeAll 37 = .ok (.iload 4, 2) := dk_21 4 (dk_at dksX3_removeAll_1 14 rfl rfl)
theorem dX3_removeAll_39 : decode cX3_removeAll 39 = .ok (.invokevirtual 49, 3) := dk_182 0 49 (dk_at dksX3_removeAll_1 16 rfl rfl)
theorem dX3_removeAll_42 : decode cX3_removeAll 42 = .ok (.iload_n 3, 1) := dk_29 (dk_at dksX3_removeAll_1 19 rfl rfl)
theorem dX3_removeAll_43 : decode cX3_removeAll 43 = .ok (.if_icmp .eq 15, 3) := dk_159 0 15 (dk_at dksX3_removeAll_1 20 rfl rfl)
theorem dX3_removeAll_46 : decode cX3_removeAll 46 = .ok (.aload_n 0, 1) := dk_42 (dk_at dksX3_removeAll_1 23 rfl rfl)
theorem dX3_removeAll_47 : decode cX3_removeAll 47 = .ok (.getfield 9, 3) := dk_180 0 9 (dk_at dksX3_removeAll_2 0 rfl rfl)
theorem dX3_removeAll_50 : decode cX3_removeAll 50 = .ok (.iload 5, 2) := dk_21 5 (dk_at dksX3_removeAll_2 3 rfl rfl)
theorem dX3_removeAll_52 : decode cX3_removeAll 52 = .ok (.iload 7, 2) := dk_21 7 (dk_at dksX3_removeAll_2 5 rfl rfl)
theorem dX3_removeAll_54 : decode cX3_removeAll 54 = .ok (.iastore, 1) := dk_79 (dk_at dksX3_removeAll_2 7 rfl rfl)
theorem dX3_removeAll_55 : decode cX3_removeAll 55 = .ok (.iinc 5 1, 3) := dk_132 5 1 (dk_at dksX3_removeAll_2 8 rfl rfl)
theorem dX3_removeAll_58 : decode cX3_removeAll 58 = .ok (.iinc 6 1, 3) := dk_132 6 1 (dk_at dksX3_removeAll_2 11 rfl rfl)
theorem dX3_removeAll_61 : decode cX3_removeAll 61 = .ok (.goto (-44), 3) := dk_167 255 212 (dk_at dksX3_removeAll_2 14 rfl rfl)
theorem dX3_removeAll_64 : decode cX3_removeAll 64 = .ok (.aload_n 1, 1) := dk_43 (dk_at dksX3_removeAll_2 17 rfl rfl)
theorem dX3_removeAll_65 : decode cX3_removeAll 65 = .ok (.invokevirtual 22, 3) := dk_182 0 22 (dk_at dksX3_removeAll_2 18 rfl rfl)
theorem dX3_removeAll_68 : decode cX3_removeAll 68 = .ok (.iload 5, 2) := dk_21 5 (dk_at dksX3_removeAll_2 21 rfl rfl)
theorem dX3_removeAll_70 : decode cX3_removeAll 70 = .ok (.isub, 1) := dk_100 (dk_at dksX3_removeAll_2 23 rfl rfl)
theorem dX3_removeAll_71 : decode cX3_removeAll 71 = .ok (.istore 6, 2) := dk_54 6 (dk_at dksX3_removeAll_3 0 rfl rfl)
theorem dX3_removeAll_73 : decode cX3_removeAll 73 = .ok (.iconst 0, 1) := dk_3 (dk_at dksX3_removeAll_3 2 rfl rfl)
theorem dX3_removeAll_74 : decode cX3_removeAll 74 = .ok (.istore 7, 2) := dk_54 7 (dk_at dksX3_removeAll_3 3 rfl rfl)
theorem dX3_removeAll_76 : decode cX3_removeAll 76 = .ok (.iload 7, 2) := dk_21 7 (dk_at dksX3_removeAll_3 5 rfl rfl)
theorem dX3_removeAll_78 : decode cX3_removeAll 78 = .ok (.iload 5, 2) := dk_21 5 (dk_at dksX3_removeAll_3 7 rfl rfl)
theorem dX3_removeAll_80 : decode cX3_removeAll 80 = .ok (.if_icmp .ge 22, 3) := dk_162 0 22 (dk_at dksX3_removeAll_3 9 rfl rfl)
theorem dX3_removeAll_83 : decode cX3_removeAll 83 = .ok (.aload_n 1, 1) := dk_43 (dk_at dksX3_removeAll_3 12 rfl rfl)
theorem dX3_removeAll_84 : decode cX3_removeAll 84 = .ok (.iload 7, 2) := dk_21 7 (dk_at dksX3_removeAll_3 13 rfl rfl)
theorem dX3_removeAll_86 : decode cX3_removeAll 86 = .ok (.aload_n 0, 1) := dk_42 (dk_at dksX3_removeAll_3 15 rfl rfl)
theorem dX3_removeAll_87 : decode cX3_removeAll 87 = .ok (.getfield 9, 3) := dk_180 0 9 (dk_at dksX3_removeAll_3 16 rfl rfl)
theorem dX3_removeAll_90 : decode cX3_removeAll 90 = .ok (.iload 7, 2) := dk_21 7 (dk_at dksX3_removeAll_3 19 rfl rfl)
theorem dX3_removeAll_92 : decode cX3_removeAll 92 = .ok (.iaload, 1) := dk_46 (dk_at dksX3_removeAll_3 21 rfl rfl)
theorem dX3_removeAll_93 : decode cX3_removeAll 93 = .ok (.invokevirtual 46, 3) := dk_182 0 46 (dk_at dksX3_removeAll_4 0 rfl rfl)
theorem dX3_removeAll_96 : decode cX3_removeAll 96 = .ok (.iinc 7 1, 3) := dk_132 7 1 (dk_at dksX3_removeAll_4 3 rfl rfl)
theorem dX3_removeAll_99 : decode cX3_removeAll 99 = .ok (.goto (-23), 3) := dk_167 255 233 (dk_at dksX3_removeAll_4 6 rfl rfl)
theorem dX3_removeAll_102 : decode cX3_removeAll 102 = .ok (.aload_n 1, 1) := dk_43 (dk_at dksX3_removeAll_4 9 rfl rfl)
theorem dX3_removeAll_103 : decode cX3_removeAll 103 = .ok (.iload 5, 2) := dk_21 5 (dk_at dksX3_removeAll_4 10 rfl rfl)
theorem dX3_removeAll_105 : decode cX3_removeAll 105 = .ok (.iload 6, 2) := dk_21 6 (dk_at dksX3_removeAll_4 12 rfl rfl)
theorem dX3_removeAll_107 : decode cX3_removeAll 107 = .ok (.invokevirtual 32, 3) := dk_182 0 32 (dk_at dksX3_removeAll_4 14 rfl rfl)
theorem dX3_removeAll_110 : decode cX3_removeAll 110 = .ok (.iload 6, 2) := dk_21 6 (dk_at dksX3_removeAll_4 17 rfl rfl)
theorem dX3_removeAll_112 : decode cX3_removeAll 112 = .ok (.ireturn, 1) := dk_172 (dk_at dksX3_removeAll_4 19 rfl rfl)
abbrev cX3_isIn : ByteArray := prog_14_method_7_code
def yX3_isIn : MethodName := ⟨RX3, "isIn", "(II)Z"⟩
def dkwX3_isIn_1 : List UInt8 := [167, 255, 236, 3, 172]
abbrev dktX3_isIn_1 : List UInt8 := dkwX3_isIn_1 ++ []
def dkwX3_isIn_0 : List UInt8 := [3, 62, 29, 28, 162, 0, 21, 42, 180, 0, 15, 29, 46, 27, 160, 0, 5, 4, 172, 132, 3, 1]
abbrev dktX3_isIn_0 : List UInt8 := dkwX3_isIn_0 ++ dktX3_isIn_1
theorem dksX3_isIn_0 : cX3_isIn.data.toList.drop 0 = dktX3_isIn_0 := by decide +kernel
theorem dksX3_isIn_1 : cX3_isIn.data.toList.drop 22 = dktX3_isIn_1 := dk_seg dksX3_isIn_0 22 rfl rfl
theorem dX3_isIn_0 : decode cX3_isIn 0 = .ok (.iconst 0, 1) := dk_3 (dk_at dksX3_isIn_0 0 rfl rfl)
theorem dX3_isIn_1 : decode cX3_isIn 1 = .ok (.istore_n 3, 1) := dk_62 (dk_at dksX3_isIn_0 1 rfl rfl)
theorem dX3_isIn_2 : decode cX3_isIn 2 = .ok (.iload_n 3, 1) := dk_29 (dk_at dksX3_isIn_0 2 rfl rfl)
theorem dX3_isIn_3 : decode cX3_isIn 3 = .ok (.iload_n 2, 1) := dk_28 (dk_at dksX3_isIn_0 3 rfl rfl)
theorem dX3_isIn_4 : decode cX3_isIn 4 = .ok (.if_icmp .ge 21, 3) := dk_162 0 21 (dk_at dksX3_isIn_0 4 rfl rfl)
theorem dX3_isIn_7 : decode cX3_isIn 7 = .ok (.aload_n 0, 1) := dk_42 (dk_at dksX3_isIn_0 7 rfl rfl)
theorem dX3_isIn_8 : decode cX3_isIn 8 = .ok (.getfield 15, 3) := dk_180 0 15 (dk_at dksX3_isIn_0 8 rfl rfl)
theorem dX3_isIn_11 : decode cX3_isIn 11 = .ok (.iload_n 3, 1) := dk_29 (dk_at dksX3_isIn_0 11 rfl rfl)
theorem dX3_isIn_12 : decode cX3_isIn 12 = .ok (.iaload, 1) := dk_46 (dk_at dksX3_isIn_0 12 rfl rfl)
theorem dX3_isIn_13 : decode cX3_isIn 13 = .ok (.iload_n 1, 1) := dk_27 (dk_at dksX3_isIn_0 13 rfl rfl)
theorem dX3_isIn_14 : decode cX3_isIn 14 = .ok (.if_icmp .ne 5, 3) := dk_160 0 5 (dk_at dksX3_isIn_0 14 rfl rfl)
theorem dX3_isIn_17 : decode cX3_isIn 17 = .ok (.iconst 1, 1) := dk_4 (dk_at dksX3_isIn_0 17 rfl rfl)
theorem dX3_isIn_18 : decode cX3_isIn 18 = .ok (.ireturn, 1) := dk_172 (dk_at dksX3_isIn_0 18 rfl rfl)
theorem dX3_isIn_19 : decode cX3_isIn 19 = .ok (.iinc 3 1, 3) := dk_132 3 1 (dk_at dksX3_isIn_0 19 rfl rfl)
theorem dX3_isIn_22 : decode cX3_isIn 22 = .ok (.goto (-20), 3) := dk_167 255 236 (dk_at dksX3_isIn_1 0 rfl rfl)
theorem dX3_isIn_25 : decode cX3_isIn 25 = .ok (.iconst 0, 1) := dk_3 (dk_at dksX3_isIn_1 3 rfl rfl)
theorem dX3_isIn_26 : decode cX3_isIn 26 = .ok (.ireturn, 1) := dk_172 (dk_at dksX3_isIn_1 4 rfl rfl)
theorem q510 : (Jvm.Cond.initialized "LibraryDesk$ListWork") ∈ lw_all := lw_g (lw_at lw_m1 3 rfl) rfl
theorem q598 : (Jvm.Cond.instantiable "LibraryDesk$ListWork" (2 : Nat)) ∈ lw_all := lw_g (lw_at lw_m1 91 rfl) rfl
theorem q600 : (Jvm.Cond.instanceMethod ({ cls := "LibraryDesk$ListWork", name := "<init>", desc := "()V" } : Jvm.MethodName)) ∈ lw_all := lw_g (lw_at lw_m1 93 rfl) rfl
theorem q601 : (Jvm.Cond.code ({ cls := "LibraryDesk$ListWork", name := "<init>", desc := "()V" } : Jvm.MethodName) prog_14_method_1_code (1 : Nat) (Option.none : Option Jvm.ClassFile.FieldType)) ∈ lw_all := lw_g (lw_at lw_m1 94 rfl) rfl
theorem q602 : (Jvm.Cond.methodLink "LibraryDesk$ListWork" (3 : Nat) ({ cls := "java/lang/Object", name := "<init>", desc := "()V" } : Jvm.MethodName)) ∈ lw_all := lw_g (lw_at lw_m1 95 rfl) rfl
theorem q603 : (Jvm.Cond.fieldLink "LibraryDesk$ListWork" (9 : Nat) "LibraryDesk$ListWork" "spare" "[I") ∈ lw_all := lw_g (lw_at lw_m1 96 rfl) rfl
theorem q604 : (Jvm.Cond.fieldLink "LibraryDesk$ListWork" (15 : Nat) "LibraryDesk$ListWork" "othe\x72" "[I") ∈ lw_all := lw_g (lw_at lw_m1 97 rfl) rfl
theorem q605 : (Jvm.Cond.laysFinal "LibraryDesk$ListWork" "LibraryDesk$ListWork" "spare" "[I") ∈ lw_all := lw_g (lw_at lw_m1 98 rfl) rfl
theorem q606 : (Jvm.Cond.soleField "LibraryDesk$ListWork" "spare") ∈ lw_all := lw_g (lw_at lw_m1 99 rfl) rfl
theorem q607 : (Jvm.Cond.laysFinal "LibraryDesk$ListWork" "LibraryDesk$ListWork" "othe\x72" "[I") ∈ lw_all := lw_g (lw_at lw_m1 100 rfl) rfl
theorem q608 : (Jvm.Cond.soleField "LibraryDesk$ListWork" "othe\x72") ∈ lw_all := lw_g (lw_at lw_m1 101 rfl) rfl
theorem q609 : (Jvm.Cond.superclass "LibraryDesk$ListWork" "java/lang/Object") ∈ lw_all := lw_g (lw_at lw_m1 102 rfl) rfl
theorem q1385 : (Jvm.Cond.fieldLinkNest "LibraryDesk$ListWork" (153 : Nat) "LibraryDesk$Rows" "size" "I" "LibraryDesk") ∈ lw_tbl := lw_at lw_m4 158 rfl
theorem q1387 : (Jvm.Cond.fieldLinkNest "LibraryDesk$ListWork" (156 : Nat) "LibraryDesk$Rows" "capacity" "I" "LibraryDesk") ∈ lw_tbl := lw_at lw_m4 160 rfl
theorem q1990 : (Jvm.Cond.static ({ cls := "LibraryDesk$ListWork", name := "asksOthe\x72", desc := "(I)Z" } : Jvm.MethodName)) ∈ lw_all := lw_g (lw_at lw_m7 43 rfl) rfl
theorem q1991 : (Jvm.Cond.code ({ cls := "LibraryDesk$ListWork", name := "asksOthe\x72", desc := "(I)Z" } : Jvm.MethodName) prog_14_method_21_code (1 : Nat) (Option.some Jvm.ClassFile.FieldType.boolean)) ∈ lw_all := lw_g (lw_at lw_m7 44 rfl) rfl
theorem q2031 : (Jvm.Cond.privateMethod ({ cls := "LibraryDesk$ListWork", name := "call", desc := "(LLibraryDesk$Places;III)J" } : Jvm.MethodName)) ∈ lw_tbl := lw_at lw_m7 84 rfl
theorem q2032 : (Jvm.Cond.instanceMethod ({ cls := "LibraryDesk$ListWork", name := "call", desc := "(LLibraryDesk$Places;III)J" } : Jvm.MethodName)) ∈ lw_all := lw_g (lw_at lw_m7 85 rfl) rfl
theorem q2033 : (Jvm.Cond.code ({ cls := "LibraryDesk$ListWork", name := "call", desc := "(LLibraryDesk$Places;III)J" } : Jvm.MethodName) prog_14_method_22_code (7 : Nat) (Option.some Jvm.ClassFile.FieldType.long)) ∈ lw_all := lw_g (lw_at lw_m7 86 rfl) rfl
theorem q2034 : (Jvm.Cond.methodLink "LibraryDesk$ListWork" (22 : Nat) ({ cls := "LibraryDesk$Places", name := "size", desc := "()I" } : Jvm.MethodName)) ∈ lw_all := lw_g (lw_at lw_m7 87 rfl) rfl
theorem q2043 : (Jvm.Cond.methodLink "LibraryDesk$ListWork" (95 : Nat) ({ cls := "LibraryDesk$Places", name := "insert", desc := "(II)V" } : Jvm.MethodName)) ∈ lw_all := lw_g (lw_at lw_m7 96 rfl) rfl
theorem q2090 : (Jvm.Cond.methodLink "LibraryDesk$ListWork" (36 : Nat) ({ cls := "LibraryDesk$ListWork", name := "at", desc := "(Z)V" } : Jvm.MethodName)) ∈ lw_all := lw_g (lw_at lw_m7 143 rfl) rfl
theorem q2091 : (Jvm.Cond.static ({ cls := "LibraryDesk$ListWork", name := "at", desc := "(Z)V" } : Jvm.MethodName)) ∈ lw_all := lw_g (lw_at lw_m7 144 rfl) rfl
theorem q2092 : (Jvm.Cond.code ({ cls := "LibraryDesk$ListWork", name := "at", desc := "(Z)V" } : Jvm.MethodName) prog_14_method_2_code (1 : Nat) (Option.none : Option Jvm.ClassFile.FieldType)) ∈ lw_all := lw_g (lw_at lw_m7 145 rfl) rfl
theorem q2093 : (Jvm.Cond.methodLinkNest "LibraryDesk$ListWork" (18 : Nat) ({ cls := "LibraryDesk", name := "within", desc := "(Z)V" } : Jvm.MethodName) "LibraryDesk") ∈ lw_tbl := lw_at lw_m7 146 rfl
theorem q2094 : (Jvm.Cond.methodLink "LibraryDesk$ListWork" (98 : Nat) ({ cls := "LibraryDesk$ListWork", name := "place", desc := "(LLibraryDesk$Places;III)J" } : Jvm.MethodName)) ∈ lw_all := lw_g (lw_at lw_m7 147 rfl) rfl
theorem q2095 : (Jvm.Cond.static ({ cls := "LibraryDesk$ListWork", name := "place", desc := "(LLibraryDesk$Places;III)J" } : Jvm.MethodName)) ∈ lw_all := lw_g (lw_at lw_m7 148 rfl) rfl
theorem q2096 : (Jvm.Cond.code ({ cls := "LibraryDesk$ListWork", name := "place", desc := "(LLibraryDesk$Places;III)J" } : Jvm.MethodName) prog_14_method_23_code (5 : Nat) (Option.some Jvm.ClassFile.FieldType.long)) ∈ lw_all := lw_g (lw_at lw_m7 149 rfl) rfl
theorem q2097 : (Jvm.Cond.methodLink "LibraryDesk$ListWork" (28 : Nat) ({ cls := "LibraryDesk$Places", name := "get", desc := "(I)I" } : Jvm.MethodName)) ∈ lw_all := lw_g (lw_at lw_m7 150 rfl) rfl
theorem q2103 : (Jvm.Cond.methodLink "LibraryDesk$ListWork" (46 : Nat) ({ cls := "LibraryDesk$Places", name := "put", desc := "(II)V" } : Jvm.MethodName)) ∈ lw_all := lw_g (lw_at lw_m7 156 rfl) rfl
theorem q2104 : (Jvm.Cond.methodLink "LibraryDesk$ListWork" (32 : Nat) ({ cls := "LibraryDesk$Places", name := "close", desc := "(II)V" } : Jvm.MethodName)) ∈ lw_all := lw_g (lw_at lw_m7 157 rfl) rfl
theorem q2114 : (Jvm.Cond.methodLink "LibraryDesk$ListWork" (102 : Nat) ({ cls := "LibraryDesk$Places", name := "find", desc := "(I)I" } : Jvm.MethodName)) ∈ lw_all := lw_g (lw_at lw_m7 167 rfl) rfl
theorem q2122 : (Jvm.Cond.methodLink "LibraryDesk$ListWork" (105 : Nat) ({ cls := "LibraryDesk$Places", name := "findLast", desc := "(I)I" } : Jvm.MethodName)) ∈ lw_all := lw_g (lw_at lw_m7 175 rfl) rfl
theorem q2128 : (Jvm.Cond.methodLink "LibraryDesk$ListWork" (108 : Nat) ({ cls := "LibraryDesk$ListWork", name := "replace", desc := "(LLibraryDesk$Places;II)I" } : Jvm.MethodName)) ∈ lw_all := lw_g (lw_at lw_m7 181 rfl) rfl
theorem q2129 : (Jvm.Cond.static ({ cls := "LibraryDesk$ListWork", name := "replace", desc := "(LLibraryDesk$Places;II)I" } : Jvm.MethodName)) ∈ lw_all := lw_g (lw_at lw_m7 182 rfl) rfl
theorem q2130 : (Jvm.Cond.code ({ cls := "LibraryDesk$ListWork", name := "replace", desc := "(LLibraryDesk$Places;II)I" } : Jvm.MethodName) prog_14_method_14_code (5 : Nat) (Option.some Jvm.ClassFile.FieldType.int)) ∈ lw_all := lw_g (lw_at lw_m7 183 rfl) rfl
theorem q2131 : (Jvm.Cond.methodLink "LibraryDesk$ListWork" (112 : Nat) ({ cls := "LibraryDesk$ListWork", name := "halving", desc := "(LLibraryDesk$Places;II)I" } : Jvm.MethodName)) ∈ lw_all := lw_g (lw_at lw_m7 184 rfl) rfl
theorem q2132 : (Jvm.Cond.static ({ cls := "LibraryDesk$ListWork", name := "halving", desc := "(LLibraryDesk$Places;II)I" } : Jvm.MethodName)) ∈ lw_all := lw_g (lw_at lw_m7 185 rfl) rfl
theorem q2133 : (Jvm.Cond.code ({ cls := "LibraryDesk$ListWork", name := "halving", desc := "(LLibraryDesk$Places;II)I" } : Jvm.MethodName) prog_14_method_15_code (7 : Nat) (Option.some Jvm.ClassFile.FieldType.int)) ∈ lw_all := lw_g (lw_at lw_m7 186 rfl) rfl
theorem q2134 : (Jvm.Cond.methodLinkNest "LibraryDesk$ListWork" (69 : Nat) ({ cls := "LibraryDesk$Orders", name := "compare", desc := "(III)I" } : Jvm.MethodName) "LibraryDesk") ∈ lw_tbl := lw_at lw_m7 187 rfl
theorem q2143 : (Jvm.Cond.methodLink "LibraryDesk$ListWork" (115 : Nat) ({ cls := "LibraryDesk$ListWork", name := "count", desc := "(LLibraryDesk$Places;I)I" } : Jvm.MethodName)) ∈ lw_all := lw_g (lw_at lw_m7 196 rfl) rfl
theorem q2144 : (Jvm.Cond.static ({ cls := "LibraryDesk$ListWork", name := "count", desc := "(LLibraryDesk$Places;I)I" } : Jvm.MethodName)) ∈ lw_all := lw_g (lw_at lw_m7 197 rfl) rfl
theorem q2145 : (Jvm.Cond.code ({ cls := "LibraryDesk$ListWork", name := "count", desc := "(LLibraryDesk$Places;I)I" } : Jvm.MethodName) prog_14_method_16_code (4 : Nat) (Option.some Jvm.ClassFile.FieldType.int)) ∈ lw_all := lw_g (lw_at lw_m7 198 rfl) rfl
theorem q2146 : (Jvm.Cond.methodLink "LibraryDesk$ListWork" (119 : Nat) ({ cls := "LibraryDesk$ListWork", name := "most", desc := "(LLibraryDesk$Places;Z)I" } : Jvm.MethodName)) ∈ lw_all := lw_g (lw_at lw_m7 199 rfl) rfl
theorem q2147 : (Jvm.Cond.static ({ cls := "LibraryDesk$ListWork", name := "most", desc := "(LLibraryDesk$Places;Z)I" } : Jvm.MethodName)) ∈ lw_all := lw_g (lw_at lw_m7 200 rfl) rfl
theorem q2148 : (Jvm.Cond.code ({ cls := "LibraryDesk$ListWork", name := "most", desc := "(LLibraryDesk$Places;Z)I" } : Jvm.MethodName) prog_14_method_17_code (4 : Nat) (Option.some Jvm.ClassFile.FieldType.int)) ∈ lw_all := lw_g (lw_at lw_m7 201 rfl) rfl
theorem q2149 : (Jvm.Cond.methodLinkNest "LibraryDesk$ListWork" (88 : Nat) ({ cls := "LibraryDesk", name := "there", desc := "(Z)V" } : Jvm.MethodName) "LibraryDesk") ∈ lw_tbl := lw_at lw_m7 202 rfl
theorem q2150 : (Jvm.Cond.methodLink "LibraryDesk$ListWork" (123 : Nat) ({ cls := "LibraryDesk$ListWork", name := "permute", desc := "(LLibraryDesk$Places;)I" } : Jvm.MethodName)) ∈ lw_all := lw_g (lw_at lw_m7 203 rfl) rfl
theorem q2151 : (Jvm.Cond.static ({ cls := "LibraryDesk$ListWork", name := "permute", desc := "(LLibraryDesk$Places;)I" } : Jvm.MethodName)) ∈ lw_all := lw_g (lw_at lw_m7 204 rfl) rfl
theorem q2152 : (Jvm.Cond.code ({ cls := "LibraryDesk$ListWork", name := "permute", desc := "(LLibraryDesk$Places;)I" } : Jvm.MethodName) prog_14_method_18_code (3 : Nat) (Option.some Jvm.ClassFile.FieldType.int)) ∈ lw_all := lw_g (lw_at lw_m7 205 rfl) rfl
theorem q2153 : (Jvm.Cond.methodLink "LibraryDesk$ListWork" (75 : Nat) ({ cls := "LibraryDesk$ListWork", name := "swap", desc := "(LLibraryDesk$Places;II)V" } : Jvm.MethodName)) ∈ lw_all := lw_g (lw_at lw_m7 206 rfl) rfl
theorem q2154 : (Jvm.Cond.static ({ cls := "LibraryDesk$ListWork", name := "swap", desc := "(LLibraryDesk$Places;II)V" } : Jvm.MethodName)) ∈ lw_all := lw_g (lw_at lw_m7 207 rfl) rfl
theorem q2155 : (Jvm.Cond.code ({ cls := "LibraryDesk$ListWork", name := "swap", desc := "(LLibraryDesk$Places;II)V" } : Jvm.MethodName) prog_14_method_10_code (4 : Nat) (Option.none : Option Jvm.ClassFile.FieldType)) ∈ lw_all := lw_g (lw_at lw_m7 208 rfl) rfl
theorem q2156 : (Jvm.Cond.methodLink "LibraryDesk$ListWork" (91 : Nat) ({ cls := "LibraryDesk$ListWork", name := "reverse", desc := "(LLibraryDesk$Places;I)V" } : Jvm.MethodName)) ∈ lw_all := lw_g (lw_at lw_m7 209 rfl) rfl
theorem q2157 : (Jvm.Cond.static ({ cls := "LibraryDesk$ListWork", name := "reverse", desc := "(LLibraryDesk$Places;I)V" } : Jvm.MethodName)) ∈ lw_all := lw_g (lw_at lw_m7 210 rfl) rfl
theorem q2158 : (Jvm.Cond.code ({ cls := "LibraryDesk$ListWork", name := "reverse", desc := "(LLibraryDesk$Places;I)V" } : Jvm.MethodName) prog_14_method_11_code (4 : Nat) (Option.none : Option Jvm.ClassFile.FieldType)) ∈ lw_all := lw_g (lw_at lw_m7 211 rfl) rfl
theorem q2159 : (Jvm.Cond.methodLink "LibraryDesk$ListWork" (127 : Nat) ({ cls := "LibraryDesk$ListWork", name := "hash", desc := "(LLibraryDesk$Places;)I" } : Jvm.MethodName)) ∈ lw_all := lw_g (lw_at lw_m7 212 rfl) rfl
theorem q2160 : (Jvm.Cond.static ({ cls := "LibraryDesk$ListWork", name := "hash", desc := "(LLibraryDesk$Places;)I" } : Jvm.MethodName)) ∈ lw_all := lw_g (lw_at lw_m7 213 rfl) rfl
theorem q2161 : (Jvm.Cond.code ({ cls := "LibraryDesk$ListWork", name := "hash", desc := "(LLibraryDesk$Places;)I" } : Jvm.MethodName) prog_14_method_19_code (3 : Nat) (Option.some Jvm.ClassFile.FieldType.int)) ∈ lw_all := lw_g (lw_at lw_m7 214 rfl) rfl
theorem q2162 : (Jvm.Cond.methodLink "LibraryDesk$ListWork" (130 : Nat) ({ cls := "LibraryDesk$ListWork", name := "capacity", desc := "(LLibraryDesk$Places;II)J" } : Jvm.MethodName)) ∈ lw_all := lw_g (lw_at lw_m7 215 rfl) rfl
theorem q2163 : (Jvm.Cond.static ({ cls := "LibraryDesk$ListWork", name := "capacity", desc := "(LLibraryDesk$Places;II)J" } : Jvm.MethodName)) ∈ lw_all := lw_g (lw_at lw_m7 216 rfl) rfl
theorem q2164 : (Jvm.Cond.code ({ cls := "LibraryDesk$ListWork", name := "capacity", desc := "(LLibraryDesk$Places;II)J" } : Jvm.MethodName) prog_14_method_24_code (4 : Nat) (Option.some Jvm.ClassFile.FieldType.long)) ∈ lw_all := lw_g (lw_at lw_m7 217 rfl) rfl
theorem q2165 : (Jvm.Cond.methodLink "LibraryDesk$ListWork" (137 : Nat) ({ cls := "LibraryDesk$Places", name := "kind", desc := "()I" } : Jvm.MethodName)) ∈ lw_all := lw_g (lw_at lw_m7 218 rfl) rfl
theorem q2169 : (Jvm.Cond.methodLinkNest "LibraryDesk$ListWork" (140 : Nat) ({ cls := "LibraryDesk", name := "can", desc := "(Z)V" } : Jvm.MethodName) "LibraryDesk") ∈ lw_tbl := lw_at lw_m7 222 rfl
theorem q2187 : (Jvm.Cond.methodLink "LibraryDesk$ListWork" (143 : Nat) ({ cls := "LibraryDesk$Places", name := "rows", desc := "()LLibraryDesk$Rows;" } : Jvm.MethodName)) ∈ lw_all := lw_g (lw_at lw_m8 0 rfl) rfl
theorem q2188 : (Jvm.Cond.methodLinkNest "LibraryDesk$ListWork" (147 : Nat) ({ cls := "LibraryDesk$Rows", name := "due", desc := "(I)V" } : Jvm.MethodName) "LibraryDesk") ∈ lw_tbl := lw_at lw_m8 1 rfl
theorem q2189 : (Jvm.Cond.methodLink "LibraryDesk$ListWork" (134 : Nat) ({ cls := "LibraryDesk$ListWork", name := "orde\x72", desc := "(LLibraryDesk$Places;III)J" } : Jvm.MethodName)) ∈ lw_all := lw_g (lw_at lw_m8 2 rfl) rfl
theorem q2190 : (Jvm.Cond.privateMethod ({ cls := "LibraryDesk$ListWork", name := "orde\x72", desc := "(LLibraryDesk$Places;III)J" } : Jvm.MethodName)) ∈ lw_tbl := lw_at lw_m8 3 rfl
theorem q2191 : (Jvm.Cond.instanceMethod ({ cls := "LibraryDesk$ListWork", name := "orde\x72", desc := "(LLibraryDesk$Places;III)J" } : Jvm.MethodName)) ∈ lw_all := lw_g (lw_at lw_m8 4 rfl) rfl
theorem q2192 : (Jvm.Cond.code ({ cls := "LibraryDesk$ListWork", name := "orde\x72", desc := "(LLibraryDesk$Places;III)J" } : Jvm.MethodName) prog_14_method_25_code (7 : Nat) (Option.some Jvm.ClassFile.FieldType.long)) ∈ lw_all := lw_g (lw_at lw_m8 5 rfl) rfl
theorem q2193 : (Jvm.Cond.methodLink "LibraryDesk$ListWork" (158 : Nat) ({ cls := "LibraryDesk$ListWork", name := "sort", desc := "(LLibraryDesk$Places;I)V" } : Jvm.MethodName)) ∈ lw_all := lw_g (lw_at lw_m8 6 rfl) rfl
theorem q2194 : (Jvm.Cond.privateMethod ({ cls := "LibraryDesk$ListWork", name := "sort", desc := "(LLibraryDesk$Places;I)V" } : Jvm.MethodName)) ∈ lw_tbl := lw_at lw_m8 7 rfl
theorem q2195 : (Jvm.Cond.instanceMethod ({ cls := "LibraryDesk$ListWork", name := "sort", desc := "(LLibraryDesk$Places;I)V" } : Jvm.MethodName)) ∈ lw_all := lw_g (lw_at lw_m8 8 rfl) rfl
theorem q2196 : (Jvm.Cond.code ({ cls := "LibraryDesk$ListWork", name := "sort", desc := "(LLibraryDesk$Places;I)V" } : Jvm.MethodName) prog_14_method_8_code (6 : Nat) (Option.none : Option Jvm.ClassFile.FieldType)) ∈ lw_all := lw_g (lw_at lw_m8 9 rfl) rfl
theorem q2197 : (Jvm.Cond.methodLink "LibraryDesk$ListWork" (39 : Nat) ({ cls := "LibraryDesk$ListWork", name := "copy", desc := "(LLibraryDesk$Places;[I)I" } : Jvm.MethodName)) ∈ lw_all := lw_g (lw_at lw_m8 10 rfl) rfl
theorem q2198 : (Jvm.Cond.privateMethod ({ cls := "LibraryDesk$ListWork", name := "copy", desc := "(LLibraryDesk$Places;[I)I" } : Jvm.MethodName)) ∈ lw_tbl := lw_at lw_m8 11 rfl
theorem q2199 : (Jvm.Cond.instanceMethod ({ cls := "LibraryDesk$ListWork", name := "copy", desc := "(LLibraryDesk$Places;[I)I" } : Jvm.MethodName)) ∈ lw_all := lw_g (lw_at lw_m8 12 rfl) rfl
theorem q2200 : (Jvm.Cond.code ({ cls := "LibraryDesk$ListWork", name := "copy", desc := "(LLibraryDesk$Places;[I)I" } : Jvm.MethodName) prog_14_method_3_code (4 : Nat) (Option.some Jvm.ClassFile.FieldType.int)) ∈ lw_all := lw_g (lw_at lw_m8 13 rfl) rfl
theorem q2201 : (Jvm.Cond.methodLink "LibraryDesk$ListWork" (53 : Nat) ({ cls := "java/lang/Math", name := "min", desc := "(II)I" } : Jvm.MethodName)) ∈ lw_all := lw_g (lw_at lw_m8 14 rfl) rfl
theorem q2204 : (Jvm.Cond.methodLink "LibraryDesk$ListWork" (59 : Nat) ({ cls := "LibraryDesk$ListWork", name := "merge", desc := "(IIII)V" } : Jvm.MethodName)) ∈ lw_all := lw_g (lw_at lw_m8 17 rfl) rfl
theorem q2205 : (Jvm.Cond.privateMethod ({ cls := "LibraryDesk$ListWork", name := "merge", desc := "(IIII)V" } : Jvm.MethodName)) ∈ lw_tbl := lw_at lw_m8 18 rfl
theorem q2206 : (Jvm.Cond.instanceMethod ({ cls := "LibraryDesk$ListWork", name := "merge", desc := "(IIII)V" } : Jvm.MethodName)) ∈ lw_all := lw_g (lw_at lw_m8 19 rfl) rfl
theorem q2207 : (Jvm.Cond.code ({ cls := "LibraryDesk$ListWork", name := "merge", desc := "(IIII)V" } : Jvm.MethodName) prog_14_method_9_code (9 : Nat) (Option.none : Option Jvm.ClassFile.FieldType)) ∈ lw_all := lw_g (lw_at lw_m8 20 rfl) rfl
theorem q2208 : (Jvm.Cond.methodLink "LibraryDesk$ListWork" (63 : Nat) ({ cls := "java/lang/System", name := "arraycopy", desc := "(Ljava/lang/Object;ILjava/lang/Object;II)V" } : Jvm.MethodName)) ∈ lw_all := lw_g (lw_at lw_m8 21 rfl) rfl
theorem q2211 : (Jvm.Cond.methodLink "LibraryDesk$ListWork" (161 : Nat) ({ cls := "LibraryDesk$ListWork", name := "rotate", desc := "(LLibraryDesk$Places;I)V" } : Jvm.MethodName)) ∈ lw_all := lw_g (lw_at lw_m8 24 rfl) rfl
theorem q2212 : (Jvm.Cond.privateMethod ({ cls := "LibraryDesk$ListWork", name := "rotate", desc := "(LLibraryDesk$Places;I)V" } : Jvm.MethodName)) ∈ lw_tbl := lw_at lw_m8 25 rfl
theorem q2213 : (Jvm.Cond.instanceMethod ({ cls := "LibraryDesk$ListWork", name := "rotate", desc := "(LLibraryDesk$Places;I)V" } : Jvm.MethodName)) ∈ lw_all := lw_g (lw_at lw_m8 26 rfl) rfl
theorem q2214 : (Jvm.Cond.code ({ cls := "LibraryDesk$ListWork", name := "rotate", desc := "(LLibraryDesk$Places;I)V" } : Jvm.MethodName) prog_14_method_12_code (5 : Nat) (Option.none : Option Jvm.ClassFile.FieldType)) ∈ lw_all := lw_g (lw_at lw_m8 27 rfl) rfl
theorem q2215 : (Jvm.Cond.methodLinkNest "LibraryDesk$ListWork" (79 : Nat) ({ cls := "LibraryDesk", name := "mod", desc := "(II)I" } : Jvm.MethodName) "LibraryDesk") ∈ lw_tbl := lw_at lw_m8 28 rfl
theorem q2216 : (Jvm.Cond.methodLink "LibraryDesk$ListWork" (164 : Nat) ({ cls := "LibraryDesk$ListWork", name := "shuffle", desc := "(LLibraryDesk$Places;I)V" } : Jvm.MethodName)) ∈ lw_all := lw_g (lw_at lw_m8 29 rfl) rfl
theorem q2217 : (Jvm.Cond.static ({ cls := "LibraryDesk$ListWork", name := "shuffle", desc := "(LLibraryDesk$Places;I)V" } : Jvm.MethodName)) ∈ lw_all := lw_g (lw_at lw_m8 30 rfl) rfl
theorem q2218 : (Jvm.Cond.code ({ cls := "LibraryDesk$ListWork", name := "shuffle", desc := "(LLibraryDesk$Places;I)V" } : Jvm.MethodName) prog_14_method_13_code (4 : Nat) (Option.none : Option Jvm.ClassFile.FieldType)) ∈ lw_all := lw_g (lw_at lw_m8 31 rfl) rfl
theorem q2219 : (Jvm.Cond.methodLinkNest "LibraryDesk$ListWork" (82 : Nat) ({ cls := "LibraryDesk", name := "next", desc := "(I)I" } : Jvm.MethodName) "LibraryDesk") ∈ lw_tbl := lw_at lw_m8 32 rfl
theorem q2223 : (Jvm.Cond.methodLinkNest "LibraryDesk$ListWork" (85 : Nat) ({ cls := "LibraryDesk", name := "draw", desc := "(II)I" } : Jvm.MethodName) "LibraryDesk") ∈ lw_tbl := lw_at lw_m8 36 rfl
theorem q2227 : (Jvm.Cond.privateMethod ({ cls := "LibraryDesk$ListWork", name := "addAll", desc := "(LLibraryDesk$Places;ILLibraryDesk$Places;)I" } : Jvm.MethodName)) ∈ lw_tbl := lw_at lw_m8 40 rfl
theorem q2228 : (Jvm.Cond.instanceMethod ({ cls := "LibraryDesk$ListWork", name := "addAll", desc := "(LLibraryDesk$Places;ILLibraryDesk$Places;)I" } : Jvm.MethodName)) ∈ lw_all := lw_g (lw_at lw_m8 41 rfl) rfl
theorem q2229 : (Jvm.Cond.code ({ cls := "LibraryDesk$ListWork", name := "addAll", desc := "(LLibraryDesk$Places;ILLibraryDesk$Places;)I" } : Jvm.MethodName) prog_14_method_5_code (6 : Nat) (Option.some Jvm.ClassFile.FieldType.int)) ∈ lw_all := lw_g (lw_at lw_m8 42 rfl) rfl
theorem q2230 : (Jvm.Cond.methodLink "LibraryDesk$ListWork" (43 : Nat) ({ cls := "LibraryDesk$Places", name := "open", desc := "(II)V" } : Jvm.MethodName)) ∈ lw_all := lw_g (lw_at lw_m8 43 rfl) rfl
theorem q2232 : (Jvm.Cond.static ({ cls := "LibraryDesk$ListWork", name := "same", desc := "(LLibraryDesk$Places;LLibraryDesk$Places;)I" } : Jvm.MethodName)) ∈ lw_all := lw_g (lw_at lw_m8 45 rfl) rfl
theorem q2233 : (Jvm.Cond.code ({ cls := "LibraryDesk$ListWork", name := "same", desc := "(LLibraryDesk$Places;LLibraryDesk$Places;)I" } : Jvm.MethodName) prog_14_method_20_code (3 : Nat) (Option.some Jvm.ClassFile.FieldType.int)) ∈ lw_all := lw_g (lw_at lw_m8 46 rfl) rfl
theorem q2235 : (Jvm.Cond.privateMethod ({ cls := "LibraryDesk$ListWork", name := "removeAll", desc := "(LLibraryDesk$Places;LLibraryDesk$Places;Z)I" } : Jvm.MethodName)) ∈ lw_tbl := lw_at lw_m8 48 rfl
theorem q2236 : (Jvm.Cond.instanceMethod ({ cls := "LibraryDesk$ListWork", name := "removeAll", desc := "(LLibraryDesk$Places;LLibraryDesk$Places;Z)I" } : Jvm.MethodName)) ∈ lw_all := lw_g (lw_at lw_m8 49 rfl) rfl
theorem q2237 : (Jvm.Cond.code ({ cls := "LibraryDesk$ListWork", name := "removeAll", desc := "(LLibraryDesk$Places;LLibraryDesk$Places;Z)I" } : Jvm.MethodName) prog_14_method_6_code (8 : Nat) (Option.some Jvm.ClassFile.FieldType.int)) ∈ lw_all := lw_g (lw_at lw_m8 50 rfl) rfl
theorem q2238 : (Jvm.Cond.methodLink "LibraryDesk$ListWork" (49 : Nat) ({ cls := "LibraryDesk$ListWork", name := "isIn", desc := "(II)Z" } : Jvm.MethodName)) ∈ lw_all := lw_g (lw_at lw_m8 51 rfl) rfl
theorem q2239 : (Jvm.Cond.privateMethod ({ cls := "LibraryDesk$ListWork", name := "isIn", desc := "(II)Z" } : Jvm.MethodName)) ∈ lw_tbl := lw_at lw_m8 52 rfl
theorem q2240 : (Jvm.Cond.instanceMethod ({ cls := "LibraryDesk$ListWork", name := "isIn", desc := "(II)Z" } : Jvm.MethodName)) ∈ lw_all := lw_g (lw_at lw_m8 53 rfl) rfl
theorem q2241 : (Jvm.Cond.code ({ cls := "LibraryDesk$ListWork", name := "isIn", desc := "(II)Z" } : Jvm.MethodName) prog_14_method_7_code (4 : Nat) (Option.some Jvm.ClassFile.FieldType.boolean)) ∈ lw_all := lw_g (lw_at lw_m8 54 rfl) rfl
theorem q6109 : (Jvm.Cond.castable "LibraryDesk$ListWork" "java/lang/Object") ∈ lw_tbl := lw_at lw_m24 82 rfl
theorem in_X3 : ∀ w ∈ wsX30, w ∈ lw_all := lw_in wsX30 [605, 607] (by decide +kernel) (by decide +kernel)

/-! LibraryDesk$PatternReader -/
set_option maxRecDepth 100000
def RX4 : String := "LibraryDesk$PatternReade\x72"
def TX4 : u_T := fun k => match k with
  | 0 => ("LibraryDesk$PatternReade\x72", "text", "[B", false)
  | 1 => ("LibraryDesk$PatternReade\x72", "length", "I", false)
  | 2 => ("LibraryDesk$PatternReade\x72", "at", "I", false)
  | 3 => ("LibraryDesk$PatternReade\x72", "open", "I", false)
  | 4 => ("LibraryDesk$PatternReade\x72", "groups", "I", false)
  | 5 => ("LibraryDesk$PatternReade\x72", "ahead", "I", false)
  | 6 => ("LibraryDesk$PatternReade\x72", "alones", "I", false)
  | 7 => ("LibraryDesk$PatternReade\x72", "to", "LLibraryDesk$PatternThing;", false)
  | 8 => ("LibraryDesk$PatternReade\x72", "makes", "Z", false)
  | 9 => ("LibraryDesk$PatternReade\x72", "set", "[J", true)
  | 10 => ("LibraryDesk$PatternReade\x72", "least", "I", false)
  | 11 => ("LibraryDesk$PatternReade\x72", "most", "I", false)
  | 12 => ("LibraryDesk$PatternReade\x72", "isLazy", "Z", false)
  | 13 => ("LibraryDesk$PatternReade\x72", "isAlone", "Z", false)
  | _ => ("LibraryDesk$PatternReade\x72", "isCounted", "Z", false)
def tyX4 : Nat → FieldType := fun k => match k with
  | 0 => .array .byte
  | 1 => .int
  | 2 => .int
  | 3 => .int
  | 4 => .int
  | 5 => .int
  | 6 => .int
  | 7 => .object "LibraryDesk$PatternThing"
  | 8 => .boolean
  | 9 => .array .long
  | 10 => .int
  | 11 => .int
  | 12 => .boolean
  | 13 => .boolean
  | _ => .boolean
abbrev wsX40 : List Cond := u_ws RX4 TX4 15
set_option maxRecDepth 100000 in
theorem nmX4 : ∀ a, a < 15 → ∀ b, b < 15 → a ≠ b → (TX4 a).2.1 ≠ (TX4 b).2.1 := by decide +kernel
set_option maxRecDepth 100000 in
theorem tyX4_ok : ∀ k, k < 15 → parseFieldDescriptor (TX4 k).2.2.1 = some (tyX4 k) := by decide +kernel
abbrev cX4_init : ByteArray := prog_21_method_1_code
def yX4_init : MethodName := ⟨RX4, "<init>", "()V"⟩
def dkwX4_init_0 : List UInt8 := [42, 183, 0, 1, 42, 7, 188, 11, 181, 0, 7, 177]
abbrev dktX4_init_0 : List UInt8 := dkwX4_init_0 ++ []
theorem dksX4_init_0 : cX4_init.data.toList.drop 0 = dktX4_init_0 := by decide +kernel
theorem dX4_init_0 : decode cX4_init 0 = .ok (.aload_n 0, 1) := dk_42 (dk_at dksX4_init_0 0 rfl rfl)
theorem dX4_init_1 : decode cX4_init 1 = .ok (.invokespecial 1, 3) := dk_183 0 1 (dk_at dksX4_init_0 1 rfl rfl)
theorem dX4_init_4 : decode cX4_init 4 = .ok (.aload_n 0, 1) := dk_42 (dk_at dksX4_init_0 4 rfl rfl)
theorem dX4_init_5 : decode cX4_init 5 = .ok (.iconst 4, 1) := dk_7 (dk_at dksX4_init_0 5 rfl rfl)
theorem dX4_init_6 : decode cX4_init 6 = .ok (.newarray .long, 2) := dk_188_11 (dk_at dksX4_init_0 6 rfl rfl)
theorem dX4_init_8 : decode cX4_init 8 = .ok (.putfield 7, 3) := dk_181 0 7 (dk_at dksX4_init_0 8 rfl rfl)
theorem dX4_init_11 : decode cX4_init 11 = .ok (.return_, 1) := dk_177 (dk_at dksX4_init_0 11 rfl rfl)
abbrev cX4_read : ByteArray := prog_21_method_5_code
def yX4_read : MethodName := ⟨RX4, "read", "([BILLibraryDesk$PatternThing;)V"⟩
def dkwX4_read_4 : List UInt8 := [180, 0, 64, 181, 0, 67, 177]
abbrev dktX4_read_4 : List UInt8 := dkwX4_read_4 ++ []
def dkwX4_read_3 : List UInt8 := [182, 0, 44, 54, 5, 42, 180, 0, 33, 16, 13, 3, 3, 182, 0, 60, 87, 42, 180, 0, 33, 42]
abbrev dktX4_read_3 : List UInt8 := dkwX4_read_3 ++ dktX4_read_4
def dkwX4_read_2 : List UInt8 := [17, 1, 144, 163, 0, 7, 4, 167, 0, 4, 3, 184, 0, 52, 42, 4, 181, 0, 37, 42, 182, 0, 41, 42]
abbrev dktX4_read_2 : List UInt8 := dkwX4_read_2 ++ dktX4_read_3
def dkwX4_read_1 : List UInt8 := [42, 182, 0, 44, 54, 4, 42, 180, 0, 21, 42, 180, 0, 13, 162, 0, 8, 42, 182, 0, 48, 191, 21, 4]
abbrev dktX4_read_1 : List UInt8 := dkwX4_read_1 ++ dktX4_read_2
def dkwX4_read_0 : List UInt8 := [42, 43, 181, 0, 17, 42, 28, 181, 0, 13, 42, 45, 181, 0, 33, 42, 3, 181, 0, 37, 42, 182, 0, 41]
abbrev dktX4_read_0 : List UInt8 := dkwX4_read_0 ++ dktX4_read_1
theorem dksX4_read_0 : cX4_read.data.toList.drop 0 = dktX4_read_0 := by decide +kernel
theorem dksX4_read_1 : cX4_read.data.toList.drop 24 = dktX4_read_1 := dk_seg dksX4_read_0 24 rfl rfl
theorem dksX4_read_2 : cX4_read.data.toList.drop 48 = dktX4_read_2 := dk_seg dksX4_read_1 24 rfl rfl
theorem dksX4_read_3 : cX4_read.data.toList.drop 72 = dktX4_read_3 := dk_seg dksX4_read_2 24 rfl rfl
theorem dksX4_read_4 : cX4_read.data.toList.drop 94 = dktX4_read_4 := dk_seg dksX4_read_3 22 rfl rfl
theorem dX4_read_0 : decode cX4_read 0 = .ok (.aload_n 0, 1) := dk_42 (dk_at dksX4_read_0 0 rfl rfl)
theorem dX4_read_1 : decode cX4_read 1 = .ok (.aload_n 1, 1) := dk_43 (dk_at dksX4_read_0 1 rfl rfl)
theorem dX4_read_2 : decode cX4_read 2 = .ok (.putfield 17, 3) := dk_181 0 17 (dk_at dksX4_read_0 2 rfl rfl)
theorem dX4_read_5 : decode cX4_read 5 = .ok (.aload_n 0, 1) := dk_42 (dk_at dksX4_read_0 5 rfl rfl)
theorem dX4_read_6 : decode cX4_read 6 = .ok (.iload_n 2, 1) := dk_28 (dk_at dksX4_read_0 6 rfl rfl)
theorem dX4_read_7 : decode cX4_read 7 = .ok (.putfield 13, 3) := dk_181 0 13 (dk_at dksX4_read_0 7 rfl rfl)
theorem dX4_read_10 : decode cX4_read 10 = .ok (.aload_n 0, 1) := dk_42 (dk_at dksX4_read_0 10 rfl rfl)
theorem dX4_read_11 : decode cX4_read 11 = .ok (.aload_n 3, 1) := dk_45 (dk_at dksX4_read_0 11 rfl rfl)
theorem dX4_read_12 : decode cX4_read 12 = .ok (.putfield 33, 3) := dk_181 0 33 (dk_at dksX4_read_0 12 rfl rfl)
theorem dX4_read_15 : decode cX4_read 15 = .ok (.aload_n 0, 1) := dk_42 (dk_at dksX4_read_0 15 rfl rfl)
theorem dX4_read_16 : decode cX4_read 16 = .ok (.iconst 0, 1) := dk_3 (dk_at dksX4_read_0 16 rfl rfl)
theorem dX4_read_17 : decode cX4_read 17 = .ok (.putfield 37, 3) := dk_181 0 37 (dk_at dksX4_read_0 17 rfl rfl)
theorem dX4_read_20 : decode cX4_read 20 = .ok (.aload_n 0, 1) := dk_42 (dk_at dksX4_read_0 20 rfl rfl)
theorem dX4_read_21 : decode cX4_read 21 = .ok (.invokevirtual 41, 3) := dk_182 0 41 (dk_at dksX4_read_0 21 rfl rfl)
theorem dX4_read_24 : decode cX4_read 24 = .ok (.aload_n 0, 1) := dk_42 (dk_at dksX4_read_1 0 rfl rfl)
theorem dX4_read_25 : decode cX4_read 25 = .ok (.invokevirtual 44, 3) := dk_182 0 44 (dk_at dksX4_read_1 1 rfl rfl)
theorem dX4_read_28 : decode cX4_read 28 = .ok (.istore 4, 2) := dk_54 4 (dk_at dksX4_read_1 4 rfl rfl)
theorem dX4_read_30 : decode cX4_read 30 = .ok (.aload_n 0, 1) := dk_42 (dk_at dksX4_read_1 6 rfl rfl)
theorem dX4_read_31 : decode cX4_read 31 = .ok (.getfield 21, 3) := dk_180 0 21 (dk_at dksX4_read_1 7 rfl rfl)
theorem dX4_read_34 : decode cX4_read 34 = .ok (.aload_n 0, 1) := dk_42 (dk_at dksX4_read_1 10 rfl rfl)
theorem dX4_read_35 : decode cX4_read 35 = .ok (.getfield 13, 3) := dk_180 0 13 (dk_at dksX4_read_1 11 rfl rfl)
theorem dX4_read_38 : decode cX4_read 38 = .ok (.if_icmp .ge 8, 3) := dk_162 0 8 (dk_at dksX4_read_1 14 rfl rfl)
theorem dX4_read_41 : decode cX4_read 41 = .ok (.aload_n 0, 1) := dk_42 (dk_at dksX4_read_1 17 rfl rfl)
theorem dX4_read_42 : decode cX4_read 42 = .ok (.invokevirtual 48, 3) := dk_182 0 48 (dk_at dksX4_read_1 18 rfl rfl)
theorem dX4_read_45 : decode cX4_read 45 = .ok (.athrow, 1) := dk_191 (dk_at dksX4_read_1 21 rfl rfl)
theorem dX4_read_46 : decode cX4_read 46 = .ok (.iload 4, 2) := dk_21 4 (dk_at dksX4_read_1 22 rfl rfl)
theorem dX4_read_48 : decode cX4_read 48 = .ok (.sipush 400, 3) := dk_17 1 144 (dk_at dksX4_read_2 0 rfl rfl)
theorem dX4_read_51 : decode cX4_read 51 = .ok (.if_icmp .gt 7, 3) := dk_163 0 7 (dk_at dksX4_read_2 3 rfl rfl)
theorem dX4_read_54 : decode cX4_read 54 = .ok (.iconst 1, 1) := dk_4 (dk_at dksX4_read_2 6 rfl rfl)
theorem dX4_read_55 : decode cX4_read 55 = .ok (.goto 4, 3) := dk_167 0 4 (dk_at dksX4_read_2 7 rfl rfl)
theorem dX4_read_58 : decode cX4_read 58 = .ok (.iconst 0, 1) := dk_3 (dk_at dksX4_read_2 10 rfl rfl)
theorem dX4_read_59 : decode cX4_read 59 = .ok (.invokestatic 52, 3) := dk_184 0 52 (dk_at dksX4_read_2 11 rfl rfl)
theorem dX4_read_62 : decode cX4_read 62 = .ok (.aload_n 0, 1) := dk_42 (dk_at dksX4_read_2 14 rfl rfl)
theorem dX4_read_63 : decode cX4_read 63 = .ok (.iconst 1, 1) := dk_4 (dk_at dksX4_read_2 15 rfl rfl)
theorem dX4_read_64 : decode cX4_read 64 = .ok (.putfield 37, 3) := dk_181 0 37 (dk_at dksX4_read_2 16 rfl rfl)
theorem dX4_read_67 : decode cX4_read 67 = .ok (.aload_n 0, 1) := dk_42 (dk_at dksX4_read_2 19 rfl rfl)
theorem dX4_read_68 : decode cX4_read 68 = .ok (.invokevirtual 41, 3) := dk_182 0 41 (dk_at dksX4_read_2 20 rfl rfl)
theorem dX4_read_71 : decode cX4_read 71 = .ok (.aload_n 0, 1) := dk_42 (dk_at dksX4_read_2 23 rfl rfl)
theorem dX4_read_72 : decode cX4_read 72 = .ok (.invokevirtual 44, 3) := dk_182 0 44 (dk_at dksX4_read_3 0 rfl rfl)
theorem dX4_read_75 : decode cX4_read 75 = .ok (.istore 5, 2) := dk_54 5 (dk_at dksX4_read_3 3 rfl rfl)
theorem dX4_read_77 : decode cX4_read 77 = .ok (.aload_n 0, 1) := dk_42 (dk_at dksX4_read_3 5 rfl rfl)
theorem dX4_read_78 : decode cX4_read 78 = .ok (.getfield 33, 3) := dk_180 0 33 (dk_at dksX4_read_3 6 rfl rfl)
theorem dX4_read_81 : decode cX4_read 81 = .ok (.bipush 13, 2) := dk_16 13 (dk_at dksX4_read_3 9 rfl rfl)
theorem dX4_read_83 : decode cX4_read 83 = .ok (.iconst 0, 1) := dk_3 (dk_at dksX4_read_3 11 rfl rfl)
theorem dX4_read_84 : decode cX4_read 84 = .ok (.iconst 0, 1) := dk_3 (dk_at dksX4_read_3 12 rfl rfl)
theorem dX4_read_85 : decode cX4_read 85 = .ok (.invokevirtual 60, 3) := dk_182 0 60 (dk_at dksX4_read_3 13 rfl rfl)
theorem dX4_read_88 : decode cX4_read 88 = .ok (.pop, 1) := dk_87 (dk_at dksX4_read_3 16 rfl rfl)
theorem dX4_read_89 : decode cX4_read 89 = .ok (.aload_n 0, 1) := dk_42 (dk_at dksX4_read_3 17 rfl rfl)
theorem dX4_read_90 : decode cX4_read 90 = .ok (.getfield 33, 3) := dk_180 0 33 (dk_at dksX4_read_3 18 rfl rfl)
theorem dX4_read_93 : decode cX4_read 93 = .ok (.aload_n 0, 1) := dk_42 (dk_at dksX4_read_3 21 rfl rfl)
theorem dX4_read_94 : decode cX4_read 94 = .ok (.getfield 64, 3) := dk_180 0 64 (dk_at dksX4_read_4 0 rfl rfl)
theorem dX4_read_97 : decode cX4_read 97 = .ok (.putfield 67, 3) := dk_181 0 67 (dk_at dksX4_read_4 3 rfl rfl)
theorem dX4_read_100 : decode cX4_read 100 = .ok (.return_, 1) := dk_177 (dk_at dksX4_read_4 6 rfl rfl)
abbrev cX4_begin : ByteArray := prog_21_method_6_code
def yX4_begin : MethodName := ⟨RX4, "begin", "()V"⟩
def dkwX4_begin_1 : List UInt8 := [181, 0, 74, 177]
abbrev dktX4_begin_1 : List UInt8 := dkwX4_begin_1 ++ []
def dkwX4_begin_0 : List UInt8 := [42, 3, 181, 0, 21, 42, 3, 181, 0, 68, 42, 3, 181, 0, 64, 42, 3, 181, 0, 71, 42, 3]
abbrev dktX4_begin_0 : List UInt8 := dkwX4_begin_0 ++ dktX4_begin_1
theorem dksX4_begin_0 : cX4_begin.data.toList.drop 0 = dktX4_begin_0 := by decide +kernel
theorem dksX4_begin_1 : cX4_begin.data.toList.drop 22 = dktX4_begin_1 := dk_seg dksX4_begin_0 22 rfl rfl
theorem dX4_begin_0 : decode cX4_begin 0 = .ok (.aload_n 0, 1) := dk_42 (dk_at dksX4_begin_0 0 rfl rfl)
theorem dX4_begin_1 : decode cX4_begin 1 = .ok (.iconst 0, 1) := dk_3 (dk_at dksX4_begin_0 1 rfl rfl)
theorem dX4_begin_2 : decode cX4_begin 2 = .ok (.putfield 21, 3) := dk_181 0 21 (dk_at dksX4_begin_0 2 rfl rfl)
theorem dX4_begin_5 : decode cX4_begin 5 = .ok (.aload_n 0, 1) := dk_42 (dk_at dksX4_begin_0 5 rfl rfl)
theorem dX4_begin_6 : decode cX4_begin 6 = .ok (.iconst 0, 1) := dk_3 (dk_at dksX4_begin_0 6 rfl rfl)
theorem dX4_begin_7 : decode cX4_begin 7 = .ok (.putfield 68, 3) := dk_181 0 68 (dk_at dksX4_begin_0 7 rfl rfl)
theorem dX4_begin_10 : decode cX4_begin 10 = .ok (.aload_n 0, 1) := dk_42 (dk_at dksX4_begin_0 10 rfl rfl)
theorem dX4_begin_11 : decode cX4_begin 11 = .ok (.iconst 0, 1) := dk_3 (dk_at dksX4_begin_0 11 rfl rfl)
theorem dX4_begin_12 : decode cX4_begin 12 = .ok (.putfield 64, 3) := dk_181 0 64 (dk_at dksX4_begin_0 12 rfl rfl)
theorem dX4_begin_15 : decode cX4_begin 15 = .ok (.aload_n 0, 1) := dk_42 (dk_at dksX4_begin_0 15 rfl rfl)
theorem dX4_begin_16 : decode cX4_begin 16 = .ok (.iconst 0, 1) := dk_3 (dk_at dksX4_begin_0 16 rfl rfl)
theorem dX4_begin_17 : decode cX4_begin 17 = .ok (.putfield 71, 3) := dk_181 0 71 (dk_at dksX4_begin_0 17 rfl rfl)
theorem dX4_begin_20 : decode cX4_begin 20 = .ok (.aload_n 0, 1) := dk_42 (dk_at dksX4_begin_0 20 rfl rfl)
theorem dX4_begin_21 : decode cX4_begin 21 = .ok (.iconst 0, 1) := dk_3 (dk_at dksX4_begin_0 21 rfl rfl)
theorem dX4_begin_22 : decode cX4_begin 22 = .ok (.putfield 74, 3) := dk_181 0 74 (dk_at dksX4_begin_1 0 rfl rfl)
theorem dX4_begin_25 : decode cX4_begin 25 = .ok (.return_, 1) := dk_177 (dk_at dksX4_begin_1 3 rfl rfl)
abbrev cX4_alternatives : ByteArray := prog_21_method_11_code
def yX4_alternatives : MethodName := ⟨RX4, "alternatives", "()I"⟩
def dkwX4_alternatives_5 : List UInt8 := [62, 42, 180, 0, 37, 153, 0, 17, 42, 180, 0, 33, 180, 0, 96, 21, 4, 42, 182, 0, 103, 79, 29, 172]
abbrev dktX4_alternatives_5 : List UInt8 := dkwX4_alternatives_5 ++ []
def dkwX4_alternatives_4 : List UInt8 := [180, 0, 33, 180, 0, 100, 28, 42, 182, 0, 103, 79, 29, 4, 184, 0, 106, 42, 182, 0, 44, 184, 0, 106]
abbrev dktX4_alternatives_4 : List UInt8 := dkwX4_alternatives_4 ++ dktX4_alternatives_5
def dkwX4_alternatives_3 : List UInt8 := [54, 4, 42, 180, 0, 37, 153, 0, 28, 42, 180, 0, 33, 180, 0, 96, 28, 28, 4, 96, 79, 42]
abbrev dktX4_alternatives_3 : List UInt8 := dkwX4_alternatives_3 ++ dktX4_alternatives_4
def dkwX4_alternatives_2 : List UInt8 := [159, 0, 5, 29, 172, 42, 89, 180, 0, 21, 4, 96, 181, 0, 21, 42, 16, 8, 3, 3, 182, 0, 87]
abbrev dktX4_alternatives_2 : List UInt8 := dkwX4_alternatives_2 ++ dktX4_alternatives_3
def dkwX4_alternatives_1 : List UInt8 := [42, 16, 7, 3, 3, 182, 0, 87, 167, 0, 4, 3, 61, 42, 182, 0, 90, 62, 42, 182, 0, 93, 16, 124]
abbrev dktX4_alternatives_1 : List UInt8 := dkwX4_alternatives_1 ++ dktX4_alternatives_2
def dkwX4_alternatives_0 : List UInt8 := [42, 180, 0, 37, 153, 0, 14, 42, 182, 0, 83, 153, 0, 7, 4, 167, 0, 4, 3, 60, 27, 153, 0, 14]
abbrev dktX4_alternatives_0 : List UInt8 := dkwX4_alternatives_0 ++ dktX4_alternatives_1
theorem dksX4_alternatives_0 : cX4_alternatives.data.toList.drop 0 = dktX4_alternatives_0 := by decide +kernel
theorem dksX4_alternatives_1 : cX4_alternatives.data.toList.drop 24 = dktX4_alternatives_1 := dk_seg dksX4_alternatives_0 24 rfl rfl
theorem dksX4_alternatives_2 : cX4_alternatives.data.toList.drop 48 = dktX4_alternatives_2 := dk_seg dksX4_alternatives_1 24 rfl rfl
theorem dksX4_alternatives_3 : cX4_alternatives.data.toList.drop 71 = dktX4_alternatives_3 := dk_seg dksX4_alternatives_2 23 rfl rfl
theorem dksX4_alternatives_4 : cX4_alternatives.data.toList.drop 93 = dktX4_alternatives_4 := dk_seg dksX4_alternatives_3 22 rfl rfl
theorem dksX4_alternatives_5 : cX4_alternatives.data.toList.drop 117 = dktX4_alternatives_5 := dk_seg dksX4_alternatives_4 24 rfl rfl
theorem dX4_alternatives_0 : decode cX4_alternatives 0 = .ok (.aload_n 0, 1) := dk_42 (dk_at dksX4_alternatives_0 0 rfl rfl)
theorem dX4_alternatives_1 : decode cX4_alternatives 1 = .ok (.getfield 37, 3) := dk_180 0 37 (dk_at dksX4_alternatives_0 1 rfl rfl)
theorem dX4_alternatives_4 : decode cX4_alternatives 4 = .ok (.ifCond .eq 14, 3) := dk_153 0 14 (dk_at dksX4_alternatives_0 4 rfl rfl)
theorem dX4_alternatives_7 : decode cX4_alternatives 7 = .ok (.aload_n 0, 1) := dk_42 (dk_at dksX4_alternatives_0 7 rfl rfl)
theorem dX4_alternatives_8 : decode cX4_alternatives 8 = .ok (.invokevirtual 83, 3) := dk_182 0 83 (dk_at dksX4_alternatives_0 8 rfl rfl)
theorem dX4_alternatives_11 : decode cX4_alternatives 11 = .ok (.ifCond .eq 7, 3) := dk_153 0 7 (dk_at dksX4_alternatives_0 11 rfl rfl)
theorem dX4_alternatives_14 : decode cX4_alternatives 14 = .ok (.iconst 1, 1) := dk_4 (dk_at dksX4_alternatives_0 14 rfl rfl)
theorem dX4_alternatives_15 : decode cX4_alternatives 15 = .ok (.goto 4, 3) := dk_167 0 4 (dk_at dksX4_alternatives_0 15 rfl rfl)
theorem dX4_alternatives_18 : decode cX4_alternatives 18 = .ok (.iconst 0, 1) := dk_3 (dk_at dksX4_alternatives_0 18 rfl rfl)
theorem dX4_alternatives_19 : decode cX4_alternatives 19 = .ok (.istore_n 1, 1) := dk_60 (dk_at dksX4_alternatives_0 19 rfl rfl)
theorem dX4_alternatives_20 : decode cX4_alternatives 20 = .ok (.iload_n 1, 1) := dk_27 (dk_at dksX4_alternatives_0 20 rfl rfl)
theorem dX4_alternatives_21 : decode cX4_alternatives 21 = .ok (.ifCond .eq 14, 3) := dk_153 0 14 (dk_at dksX4_alternatives_0 21 rfl rfl)
theorem dX4_alternatives_24 : decode cX4_alternatives 24 = .ok (.aload_n 0, 1) := dk_42 (dk_at dksX4_alternatives_1 0 rfl rfl)
theorem dX4_alternatives_25 : decode cX4_alternatives 25 = .ok (.bipush 7, 2) := dk_16 7 (dk_at dksX4_alternatives_1 1 rfl rfl)
theorem dX4_alternatives_27 : decode cX4_alternatives 27 = .ok (.iconst 0, 1) := dk_3 (dk_at dksX4_alternatives_1 3 rfl rfl)
theorem dX4_alternatives_28 : decode cX4_alternatives 28 = .ok (.iconst 0, 1) := dk_3 (dk_at dksX4_alternatives_1 4 rfl rfl)
theorem dX4_alternatives_29 : decode cX4_alternatives 29 = .ok (.invokevirtual 87, 3) := dk_182 0 87 (dk_at dksX4_alternatives_1 5 rfl rfl)
theorem dX4_alternatives_32 : decode cX4_alternatives 32 = .ok (.goto 4, 3) := dk_167 0 4 (dk_at dksX4_alternatives_1 8 rfl rfl)
theorem dX4_alternatives_35 : decode cX4_alternatives 35 = .ok (.iconst 0, 1) := dk_3 (dk_at dksX4_alternatives_1 11 rfl rfl)
theorem dX4_alternatives_36 : decode cX4_alternatives 36 = .ok (.istore_n 2, 1) := dk_61 (dk_at dksX4_alternatives_1 12 rfl rfl)
theorem dX4_alternatives_37 : decode cX4_alternatives 37 = .ok (.aload_n 0, 1) := dk_42 (dk_at dksX4_alternatives_1 13 rfl rfl)
theorem dX4_alternatives_38 : decode cX4_alternatives 38 = .ok (.invokevirtual 90, 3) := dk_182 0 90 (dk_at dksX4_alternatives_1 14 rfl rfl)
theorem dX4_alternatives_41 : decode cX4_alternatives 41 = .ok (.istore_n 3, 1) := dk_62 (dk_at dksX4_alternatives_1 17 rfl rfl)
theorem dX4_alternatives_42 : decode cX4_alternatives 42 = .ok (.aload_n 0, 1) := dk_42 (dk_at dksX4_alternatives_1 18 rfl rfl)
theorem dX4_alternatives_43 : decode cX4_alternatives 43 = .ok (.invokevirtual 93, 3) := dk_182 0 93 (dk_at dksX4_alternatives_1 19 rfl rfl)
theorem dX4_alternatives_46 : decode cX4_alternatives 46 = .ok (.bipush 124, 2) := dk_16 124 (dk_at dksX4_alternatives_1 22 rfl rfl)
theorem dX4_alternatives_48 : decode cX4_alternatives 48 = .ok (.if_icmp .eq 5, 3) := dk_159 0 5 (dk_at dksX4_alternatives_2 0 rfl rfl)
theorem dX4_alternatives_51 : decode cX4_alternatives 51 = .ok (.iload_n 3, 1) := dk_29 (dk_at dksX4_alternatives_2 3 rfl rfl)
theorem dX4_alternatives_52 : decode cX4_alternatives 52 = .ok (.ireturn, 1) := dk_172 (dk_at dksX4_alternatives_2 4 rfl rfl)
theorem dX4_alternatives_53 : decode cX4_alternatives 53 = .ok (.aload_n 0, 1) := dk_42 (dk_at dksX4_alternatives_2 5 rfl rfl)
theorem dX4_alternatives_54 : decode cX4_alternatives 54 = .ok (.dup, 1) := dk_89 (dk_at dksX4_alternatives_2 6 rfl rfl)
theorem dX4_alternatives_55 : decode cX4_alternatives 55 = .ok (.getfield 21, 3) := dk_180 0 21 (dk_at dksX4_alternatives_2 7 rfl rfl)
theorem dX4_alternatives_58 : decode cX4_alternatives 58 = .ok (.iconst 1, 1) := dk_4 (dk_at dksX4_alternatives_2 10 rfl rfl)
theorem dX4_alternatives_59 : decode cX4_alternatives 59 = .ok (.iadd, 1) := dk_96 (dk_at dksX4_alternatives_2 11 rfl rfl)
theorem dX4_alternatives_60 : decode cX4_alternatives 60 = .ok (.putfield 21, 3) := dk_181 0 21 (dk_at dksX4_alternatives_2 12 rfl rfl)
theorem dX4_alternatives_63 : decode cX4_alternatives 63 = .ok (.aload_n 0, 1) := dk_42 (dk_at dksX4_alternatives_2 15 rfl rfl)
theorem dX4_alternatives_64 : decode cX4_alternatives 64 = .ok (.bipush 8, 2) := dk_16 8 (dk_at dksX4_alternatives_2 16 rfl rfl)
theorem dX4_alternatives_66 : decode cX4_alternatives 66 = .ok (.iconst 0, 1) := dk_3 (dk_at dksX4_alternatives_2 18 rfl rfl)
theorem dX4_alternatives_67 : decode cX4_alternatives 67 = .ok (.iconst 0, 1) := dk_3 (dk_at dksX4_alternatives_2 19 rfl rfl)
theorem dX4_alternatives_68 : decode cX4_alternatives 68 = .ok (.invokevirtual 87, 3) := dk_182 0 87 (dk_at dksX4_alternatives_2 20 rfl rfl)
theorem dX4_alternatives_71 : decode cX4_alternatives 71 = .ok (.istore 4, 2) := dk_54 4 (dk_at dksX4_alternatives_3 0 rfl rfl)
theorem dX4_alternatives_73 : decode cX4_alternatives 73 = .ok (.aload_n 0, 1) := dk_42 (dk_at dksX4_alternatives_3 2 rfl rfl)
theorem dX4_alternatives_74 : decode cX4_alternatives 74 = .ok (.getfield 37, 3) := dk_180 0 37 (dk_at dksX4_alternatives_3 3 rfl rfl)
theorem dX4_alternatives_77 : decode cX4_alternatives 77 = .ok (.ifCond .eq 28, 3) := dk_153 0 28 (dk_at dksX4_alternatives_3 6 rfl rfl)
theorem dX4_alternatives_80 : decode cX4_alternatives 80 = .ok (.aload_n 0, 1) := dk_42 (dk_at dksX4_alternatives_3 9 rfl rfl)
theorem dX4_alternatives_81 : decode cX4_alternatives 81 = .ok (.getfield 33, 3) := dk_180 0 33 (dk_at dksX4_alternatives_3 10 rfl rfl)
theorem dX4_alternatives_84 : decode cX4_alternatives 84 = .ok (.getfield 96, 3) := dk_180 0 96 (dk_at dksX4_alternatives_3 13 rfl rfl)
theorem dX4_alternatives_87 : decode cX4_alternatives 87 = .ok (.iload_n 2, 1) := dk_28 (dk_at dksX4_alternatives_3 16 rfl rfl)
theorem dX4_alternatives_88 : decode cX4_alternatives 88 = .ok (.iload_n 2, 1) := dk_28 (dk_at dksX4_alternatives_3 17 rfl rfl)
theorem dX4_alternatives_89 : decode cX4_alternatives 89 = .ok (.iconst 1, 1) := dk_4 (dk_at dksX4_alternatives_3 18 rfl rfl)
theorem dX4_alternatives_90 : decode cX4_alternatives 90 = .ok (.iadd, 1) := dk_96 (dk_at dksX4_alternatives_3 19 rfl rfl)
theorem dX4_alternatives_91 : decode cX4_alternatives 91 = .ok (.iastore, 1) := dk_79 (dk_at dksX4_alternatives_3 20 rfl rfl)
theorem dX4_alternatives_92 : decode cX4_alternatives 92 = .ok (.aload_n 0, 1) := dk_42 (dk_at dksX4_alternatives_3 21 rfl rfl)
theorem dX4_alternatives_93 : decode cX4_alternatives 93 = .ok (.getfield 33, 3) := dk_180 0 33 (dk_at dksX4_alternatives_4 0 rfl rfl)
theorem dX4_alternatives_96 : decode cX4_alternatives 96 = .ok (.getfield 100, 3) := dk_180 0 100 (dk_at dksX4_alternatives_4 3 rfl rfl)
theorem dX4_alternatives_99 : decode cX4_alternatives 99 = .ok (.iload_n 2, 1) := dk_28 (dk_at dksX4_alternatives_4 6 rfl rfl)
theorem dX4_alternatives_100 : decode cX4_alternatives 100 = .ok (.aload_n 0, 1) := dk_42 (dk_at dksX4_alternatives_4 7 rfl rfl)
theorem dX4_alternatives_101 : decode cX4_alternatives 101 = .ok (.invokevirtual 103, 3) := dk_182 0 103 (dk_at dksX4_alternatives_4 8 rfl rfl)
theorem dX4_alternatives_104 : decode cX4_alternatives 104 = .ok (.iastore, 1) := dk_79 (dk_at dksX4_alternatives_4 11 rfl rfl)
theorem dX4_alternatives_105 : decode cX4_alternatives 105 = .ok (.iload_n 3, 1) := dk_29 (dk_at dksX4_alternatives_4 12 rfl rfl)
theorem dX4_alternatives_106 : decode cX4_alternatives 106 = .ok (.iconst 1, 1) := dk_4 (dk_at dksX4_alternatives_4 13 rfl rfl)
theorem dX4_alternatives_107 : decode cX4_alternatives 107 = .ok (.invokestatic 106, 3) := dk_184 0 106 (dk_at dksX4_alternatives_4 14 rfl rfl)
theorem dX4_alternatives_110 : decode cX4_alternatives 110 = .ok (.aload_n 0, 1) := dk_42 (dk_at dksX4_alternatives_4 17 rfl rfl)
theorem dX4_alternatives_111 : decode cX4_alternatives 111 = .ok (.invokevirtual 44, 3) := dk_182 0 44 (dk_at dksX4_alternatives_4 18 rfl rfl)
theorem dX4_alternatives_114 : decode cX4_alternatives 114 = .ok (.invokestatic 106, 3) := dk_184 0 106 (dk_at dksX4_alternatives_4 21 rfl rfl)
theorem dX4_alternatives_117 : decode cX4_alternatives 117 = .ok (.istore_n 3, 1) := dk_62 (dk_at dksX4_alternatives_5 0 rfl rfl)
theorem dX4_alternatives_118 : decode cX4_alternatives 118 = .ok (.aload_n 0, 1) := dk_42 (dk_at dksX4_alternatives_5 1 rfl rfl)
theorem dX4_alternatives_119 : decode cX4_alternatives 119 = .ok (.getfield 37, 3) := dk_180 0 37 (dk_at dksX4_alternatives_5 2 rfl rfl)
theorem dX4_alternatives_122 : decode cX4_alternatives 122 = .ok (.ifCond .eq 17, 3) := dk_153 0 17 (dk_at dksX4_alternatives_5 5 rfl rfl)
theorem dX4_alternatives_125 : decode cX4_alternatives 125 = .ok (.aload_n 0, 1) := dk_42 (dk_at dksX4_alternatives_5 8 rfl rfl)
theorem dX4_alternatives_126 : decode cX4_alternatives 126 = .ok (.getfield 33, 3) := dk_180 0 33 (dk_at dksX4_alternatives_5 9 rfl rfl)
theorem dX4_alternatives_129 : decode cX4_alternatives 129 = .ok (.getfield 96, 3) := dk_180 0 96 (dk_at dksX4_alternatives_5 12 rfl rfl)
theorem dX4_alternatives_132 : decode cX4_alternatives 132 = .ok (.iload 4, 2) := dk_21 4 (dk_at dksX4_alternatives_5 15 rfl rfl)
theorem dX4_alternatives_134 : decode cX4_alternatives 134 = .ok (.aload_n 0, 1) := dk_42 (dk_at dksX4_alternatives_5 17 rfl rfl)
theorem dX4_alternatives_135 : decode cX4_alternatives 135 = .ok (.invokevirtual 103, 3) := dk_182 0 103 (dk_at dksX4_alternatives_5 18 rfl rfl)
theorem dX4_alternatives_138 : decode cX4_alternatives 138 = .ok (.iastore, 1) := dk_79 (dk_at dksX4_alternatives_5 21 rfl rfl)
theorem dX4_alternatives_139 : decode cX4_alternatives 139 = .ok (.iload_n 3, 1) := dk_29 (dk_at dksX4_alternatives_5 22 rfl rfl)
theorem dX4_alternatives_140 : decode cX4_alternatives 140 = .ok (.ireturn, 1) := dk_172 (dk_at dksX4_alternatives_5 23 rfl rfl)
abbrev cX4_hasOther : ByteArray := prog_21_method_12_code
def yX4_hasOther : MethodName := ⟨RX4, "hasOthe\x72", "()Z"⟩
def dkwX4_hasOther_2 : List UInt8 := [181, 0, 64, 21, 4, 172]
abbrev dktX4_hasOther_2 : List UInt8 := dkwX4_hasOther_2 ++ []
def dkwX4_hasOther_1 : List UInt8 := [16, 124, 160, 0, 7, 4, 167, 0, 4, 3, 54, 4, 42, 4, 181, 0, 37, 42, 27, 181, 0, 21, 42, 28]
abbrev dktX4_hasOther_1 : List UInt8 := dkwX4_hasOther_1 ++ dktX4_hasOther_2
def dkwX4_hasOther_0 : List UInt8 := [42, 180, 0, 21, 60, 42, 180, 0, 64, 61, 42, 3, 181, 0, 37, 42, 182, 0, 90, 62, 42, 182, 0, 93]
abbrev dktX4_hasOther_0 : List UInt8 := dkwX4_hasOther_0 ++ dktX4_hasOther_1
theorem dksX4_hasOther_0 : cX4_hasOther.data.toList.drop 0 = dktX4_hasOther_0 := by decide +kernel
theorem dksX4_hasOther_1 : cX4_hasOther.data.toList.drop 24 = dktX4_hasOther_1 := dk_seg dksX4_hasOther_0 24 rfl rfl
theorem dksX4_hasOther_2 : cX4_hasOther.data.toList.drop 48 = dktX4_hasOther_2 := dk_seg dksX4_hasOther_1 24 rfl rfl
theorem dX4_hasOther_0 : decode cX4_hasOther 0 = .ok (.aload_n 0, 1) := dk_42 (dk_at dksX4_hasOther_0 0 rfl rfl)
theorem dX4_hasOther_1 : decode cX4_hasOther 1 = .ok (.getfield 21, 3) := dk_180 0 21 (dk_at dksX4_hasOther_0 1 rfl rfl)
theorem dX4_hasOther_4 : decode cX4_hasOther 4 = .ok (.istore_n 1, 1) := dk_60 (dk_at dksX4_hasOther_0 4 rfl rfl)
theorem dX4_hasOther_5 : decode cX4_hasOther 5 = .ok (.aload_n 0, 1) := dk_42 (dk_at dksX4_hasOther_0 5 rfl rfl)
theorem dX4_hasOther_6 : decode cX4_hasOther 6 = .ok (.getfield 64, 3) := dk_180 0 64 (dk_at dksX4_hasOther_0 6 rfl rfl)
theorem dX4_hasOther_9 : decode cX4_hasOther 9 = .ok (.istore_n 2, 1) := dk_61 (dk_at dksX4_hasOther_0 9 rfl rfl)
theorem dX4_hasOther_10 : decode cX4_hasOther 10 = .ok (.aload_n 0, 1) := dk_42 (dk_at dksX4_hasOther_0 10 rfl rfl)
theorem dX4_hasOther_11 : decode cX4_hasOther 11 = .ok (.iconst 0, 1) := dk_3 (dk_at dksX4_hasOther_0 11 rfl rfl)
theorem dX4_hasOther_12 : decode cX4_hasOther 12 = .ok (.putfield 37, 3) := dk_181 0 37 (dk_at dksX4_hasOther_0 12 rfl rfl)
theorem dX4_hasOther_15 : decode cX4_hasOther 15 = .ok (.aload_n 0, 1) := dk_42 (dk_at dksX4_hasOther_0 15 rfl rfl)
theorem dX4_hasOther_16 : decode cX4_hasOther 16 = .ok (.invokevirtual 90, 3) := dk_182 0 90 (dk_at dksX4_hasOther_0 16 rfl rfl)
theorem dX4_hasOther_19 : decode cX4_hasOther 19 = .ok (.istore_n 3, 1) := dk_62 (dk_at dksX4_hasOther_0 19 rfl rfl)
theorem dX4_hasOther_20 : decode cX4_hasOther 20 = .ok (.aload_n 0, 1) := dk_42 (dk_at dksX4_hasOther_0 20 rfl rfl)
theorem dX4_hasOther_21 : decode cX4_hasOther 21 = .ok (.invokevirtual 93, 3) := dk_182 0 93 (dk_at dksX4_hasOther_0 21 rfl rfl)
theorem dX4_hasOther_24 : decode cX4_hasOther 24 = .ok (.bipush 124, 2) := dk_16 124 (dk_at dksX4_hasOther_1 0 rfl rfl)
theorem dX4_hasOther_26 : decode cX4_hasOther 26 = .ok (.if_icmp .ne 7, 3) := dk_160 0 7 (dk_at dksX4_hasOther_1 2 rfl rfl)
theorem dX4_hasOther_29 : decode cX4_hasOther 29 = .ok (.iconst 1, 1) := dk_4 (dk_at dksX4_hasOther_1 5 rfl rfl)
theorem dX4_hasOther_30 : decode cX4_hasOther 30 = .ok (.goto 4, 3) := dk_167 0 4 (dk_at dksX4_hasOther_1 6 rfl rfl)
theorem dX4_hasOther_33 : decode cX4_hasOther 33 = .ok (.iconst 0, 1) := dk_3 (dk_at dksX4_hasOther_1 9 rfl rfl)
theorem dX4_hasOther_34 : decode cX4_hasOther 34 = .ok (.istore 4, 2) := dk_54 4 (dk_at dksX4_hasOther_1 10 rfl rfl)
theorem dX4_hasOther_36 : decode cX4_hasOther 36 = .ok (.aload_n 0, 1) := dk_42 (dk_at dksX4_hasOther_1 12 rfl rfl)
theorem dX4_hasOther_37 : decode cX4_hasOther 37 = .ok (.iconst 1, 1) := dk_4 (dk_at dksX4_hasOther_1 13 rfl rfl)
theorem dX4_hasOther_38 : decode cX4_hasOther 38 = .ok (.putfield 37, 3) := dk_181 0 37 (dk_at dksX4_hasOther_1 14 rfl rfl)
theorem dX4_hasOther_41 : decode cX4_hasOther 41 = .ok (.aload_n 0, 1) := dk_42 (dk_at dksX4_hasOther_1 17 rfl rfl)
theorem dX4_hasOther_42 : decode cX4_hasOther 42 = .ok (.iload_n 1, 1) := dk_27 (dk_at dksX4_hasOther_1 18 rfl rfl)
theorem dX4_hasOther_43 : decode cX4_hasOther 43 = .ok (.putfield 21, 3) := dk_181 0 21 (dk_at dksX4_hasOther_1 19 rfl rfl)
theorem dX4_hasOther_46 : decode cX4_hasOther 46 = .ok (.aload_n 0, 1) := dk_42 (dk_at dksX4_hasOther_1 22 rfl rfl)
theorem dX4_hasOther_47 : decode cX4_hasOther 47 = .ok (.iload_n 2, 1) := dk_28 (dk_at dksX4_hasOther_1 23 rfl rfl)
theorem dX4_hasOther_48 : decode cX4_hasOther 48 = .ok (.putfield 64, 3) := dk_181 0 64 (dk_at dksX4_hasOther_2 0 rfl rfl)
theorem dX4_hasOther_51 : decode cX4_hasOther 51 = .ok (.iload 4, 2) := dk_21 4 (dk_at dksX4_hasOther_2 3 rfl rfl)
theorem dX4_hasOther_53 : decode cX4_hasOther 53 = .ok (.ireturn, 1) := dk_172 (dk_at dksX4_hasOther_2 5 rfl rfl)
abbrev cX4_sequence : ByteArray := prog_21_method_13_code
def yX4_sequence : MethodName := ⟨RX4, "sequence", "()I"⟩
def dkwX4_sequence_1 : List UInt8 := [182, 0, 93, 16, 41, 159, 0, 15, 27, 42, 182, 0, 110, 184, 0, 106, 60, 167, 255, 218, 27, 172]
abbrev dktX4_sequence_1 : List UInt8 := dkwX4_sequence_1 ++ []
def dkwX4_sequence_0 : List UInt8 := [3, 60, 42, 180, 0, 21, 42, 180, 0, 13, 162, 0, 33, 42, 182, 0, 93, 16, 124, 159, 0, 24, 42]
abbrev dktX4_sequence_0 : List UInt8 := dkwX4_sequence_0 ++ dktX4_sequence_1
theorem dksX4_sequence_0 : cX4_sequence.data.toList.drop 0 = dktX4_sequence_0 := by decide +kernel
theorem dksX4_sequence_1 : cX4_sequence.data.toList.drop 23 = dktX4_sequence_1 := dk_seg dksX4_sequence_0 23 rfl rfl
theorem dX4_sequence_0 : decode cX4_sequence 0 = .ok (.iconst 0, 1) := dk_3 (dk_at dksX4_sequence_0 0 rfl rfl)
theorem dX4_sequence_1 : decode cX4_sequence 1 = .ok (.istore_n 1, 1) := dk_60 (dk_at dksX4_sequence_0 1 rfl rfl)
theorem dX4_sequence_2 : decode cX4_sequence 2 = .ok (.aload_n 0, 1) := dk_42 (dk_at dksX4_sequence_0 2 rfl rfl)
theorem dX4_sequence_3 : decode cX4_sequence 3 = .ok (.getfield 21, 3) := dk_180 0 21 (dk_at dksX4_sequence_0 3 rfl rfl)
theorem dX4_sequence_6 : decode cX4_sequence 6 = .ok (.aload_n 0, 1) := dk_42 (dk_at dksX4_sequence_0 6 rfl rfl)
theorem dX4_sequence_7 : decode cX4_sequence 7 = .ok (.getfield 13, 3) := dk_180 0 13 (dk_at dksX4_sequence_0 7 rfl rfl)
theorem dX4_sequence_10 : decode cX4_sequence 10 = .ok (.if_icmp .ge 33, 3) := dk_162 0 33 (dk_at dksX4_sequence_0 10 rfl rfl)
theorem dX4_sequence_13 : decode cX4_sequence 13 = .ok (.aload_n 0, 1) := dk_42 (dk_at dksX4_sequence_0 13 rfl rfl)
theorem dX4_sequence_14 : decode cX4_sequence 14 = .ok (.invokevirtual 93, 3) := dk_182 0 93 (dk_at dksX4_sequence_0 14 rfl rfl)
theorem dX4_sequence_17 : decode cX4_sequence 17 = .ok (.bipush 124, 2) := dk_16 124 (dk_at dksX4_sequence_0 17 rfl rfl)
theorem dX4_sequence_19 : decode cX4_sequence 19 = .ok (.if_icmp .eq 24, 3) := dk_159 0 24 (dk_at dksX4_sequence_0 19 rfl rfl)
theorem dX4_sequence_22 : decode cX4_sequence 22 = .ok (.aload_n 0, 1) := dk_42 (dk_at dksX4_sequence_0 22 rfl rfl)
theorem dX4_sequence_23 : decode cX4_sequence 23 = .ok (.invokevirtual 93, 3) := dk_182 0 93 (dk_at dksX4_sequence_1 0 rfl rfl)
theorem dX4_sequence_26 : decode cX4_sequence 26 = .ok (.bipush 41, 2) := dk_16 41 (dk_at dksX4_sequence_1 3 rfl rfl)
theorem dX4_sequence_28 : decode cX4_sequence 28 = .ok (.if_icmp .eq 15, 3) := dk_159 0 15 (dk_at dksX4_sequence_1 5 rfl rfl)
theorem dX4_sequence_31 : decode cX4_sequence 31 = .ok (.iload_n 1, 1) := dk_27 (dk_at dksX4_sequence_1 8 rfl rfl)
theorem dX4_sequence_32 : decode cX4_sequence 32 = .ok (.aload_n 0, 1) := dk_42 (dk_at dksX4_sequence_1 9 rfl rfl)
theorem dX4_sequence_33 : decode cX4_sequence 33 = .ok (.invokevirtual 110, 3) := dk_182 0 110 (dk_at dksX4_sequence_1 10 rfl rfl)
theorem dX4_sequence_36 : decode cX4_sequence 36 = .ok (.invokestatic 106, 3) := dk_184 0 106 (dk_at dksX4_sequence_1 13 rfl rfl)
theorem dX4_sequence_39 : decode cX4_sequence 39 = .ok (.istore_n 1, 1) := dk_60 (dk_at dksX4_sequence_1 16 rfl rfl)
theorem dX4_sequence_40 : decode cX4_sequence 40 = .ok (.goto (-38), 3) := dk_167 255 218 (dk_at dksX4_sequence_1 17 rfl rfl)
theorem dX4_sequence_43 : decode cX4_sequence 43 = .ok (.iload_n 1, 1) := dk_27 (dk_at dksX4_sequence_1 20 rfl rfl)
theorem dX4_sequence_44 : decode cX4_sequence 44 = .ok (.ireturn, 1) := dk_172 (dk_at dksX4_sequence_1 21 rfl rfl)
abbrev cX4_look : ByteArray := prog_21_method_3_code
def yX4_look : MethodName := ⟨RX4, "look", "()I"⟩
def dkwX4_look_0 : List UInt8 := [42, 42, 180, 0, 21, 182, 0, 24, 172]
abbrev dktX4_look_0 : List UInt8 := dkwX4_look_0 ++ []
theorem dksX4_look_0 : cX4_look.data.toList.drop 0 = dktX4_look_0 := by decide +kernel
theorem dX4_look_0 : decode cX4_look 0 = .ok (.aload_n 0, 1) := dk_42 (dk_at dksX4_look_0 0 rfl rfl)
theorem dX4_look_1 : decode cX4_look 1 = .ok (.aload_n 0, 1) := dk_42 (dk_at dksX4_look_0 1 rfl rfl)
theorem dX4_look_2 : decode cX4_look 2 = .ok (.getfield 21, 3) := dk_180 0 21 (dk_at dksX4_look_0 2 rfl rfl)
theorem dX4_look_5 : decode cX4_look 5 = .ok (.invokevirtual 24, 3) := dk_182 0 24 (dk_at dksX4_look_0 5 rfl rfl)
theorem dX4_look_8 : decode cX4_look 8 = .ok (.ireturn, 1) := dk_172 (dk_at dksX4_look_0 8 rfl rfl)
abbrev cX4_byteAt : ByteArray := prog_21_method_2_code
def yX4_byteAt : MethodName := ⟨RX4, "byteAt", "(I)I"⟩
def dkwX4_byteAt_1 : List UInt8 := [180, 0, 17, 27, 51, 172]
abbrev dktX4_byteAt_1 : List UInt8 := dkwX4_byteAt_1 ++ []
def dkwX4_byteAt_0 : List UInt8 := [27, 42, 180, 0, 13, 161, 0, 7, 2, 167, 0, 20, 27, 17, 0, 200, 160, 0, 7, 3, 167, 0, 9, 42]
abbrev dktX4_byteAt_0 : List UInt8 := dkwX4_byteAt_0 ++ dktX4_byteAt_1
theorem dksX4_byteAt_0 : cX4_byteAt.data.toList.drop 0 = dktX4_byteAt_0 := by decide +kernel
theorem dksX4_byteAt_1 : cX4_byteAt.data.toList.drop 24 = dktX4_byteAt_1 := dk_seg dksX4_byteAt_0 24 rfl rfl
theorem dX4_byteAt_0 : decode cX4_byteAt 0 = .ok (.iload_n 1, 1) := dk_27 (dk_at dksX4_byteAt_0 0 rfl rfl)
theorem dX4_byteAt_1 : decode cX4_byteAt 1 = .ok (.aload_n 0, 1) := dk_42 (dk_at dksX4_byteAt_0 1 rfl rfl)
theorem dX4_byteAt_2 : decode cX4_byteAt 2 = .ok (.getfield 13, 3) := dk_180 0 13 (dk_at dksX4_byteAt_0 2 rfl rfl)
theorem dX4_byteAt_5 : decode cX4_byteAt 5 = .ok (.if_icmp .lt 7, 3) := dk_161 0 7 (dk_at dksX4_byteAt_0 5 rfl rfl)
theorem dX4_byteAt_8 : decode cX4_byteAt 8 = .ok (.iconst (-1), 1) := dk_2 (dk_at dksX4_byteAt_0 8 rfl rfl)
theorem dX4_byteAt_9 : decode cX4_byteAt 9 = .ok (.goto 20, 3) := dk_167 0 20 (dk_at dksX4_byteAt_0 9 rfl rfl)
theorem dX4_byteAt_12 : decode cX4_byteAt 12 = .ok (.iload_n 1, 1) := dk_27 (dk_at dksX4_byteAt_0 12 rfl rfl)
theorem dX4_byteAt_13 : decode cX4_byteAt 13 = .ok (.sipush 200, 3) := dk_17 0 200 (dk_at dksX4_byteAt_0 13 rfl rfl)
theorem dX4_byteAt_16 : decode cX4_byteAt 16 = .ok (.if_icmp .ne 7, 3) := dk_160 0 7 (dk_at dksX4_byteAt_0 16 rfl rfl)
theorem dX4_byteAt_19 : decode cX4_byteAt 19 = .ok (.iconst 0, 1) := dk_3 (dk_at dksX4_byteAt_0 19 rfl rfl)
theorem dX4_byteAt_20 : decode cX4_byteAt 20 = .ok (.goto 9, 3) := dk_167 0 9 (dk_at dksX4_byteAt_0 20 rfl rfl)
theorem dX4_byteAt_23 : decode cX4_byteAt 23 = .ok (.aload_n 0, 1) := dk_42 (dk_at dksX4_byteAt_0 23 rfl rfl)
theorem dX4_byteAt_24 : decode cX4_byteAt 24 = .ok (.getfield 17, 3) := dk_180 0 17 (dk_at dksX4_byteAt_1 0 rfl rfl)
theorem dX4_byteAt_27 : decode cX4_byteAt 27 = .ok (.iload_n 1, 1) := dk_27 (dk_at dksX4_byteAt_1 3 rfl rfl)
theorem dX4_byteAt_28 : decode cX4_byteAt 28 = .ok (.baload, 1) := dk_51 (dk_at dksX4_byteAt_1 4 rfl rfl)
theorem dX4_byteAt_29 : decode cX4_byteAt 29 = .ok (.ireturn, 1) := dk_172 (dk_at dksX4_byteAt_1 5 rfl rfl)
abbrev cX4_item : ByteArray := prog_21_method_14_code
def yX4_item : MethodName := ⟨RX4, "item", "()I"⟩
def dkwX4_item_14 : List UInt8 := [184, 0, 106, 167, 0, 5, 21, 14, 172]
abbrev dktX4_item_14 : List UInt8 := dkwX4_item_14 ++ []
def dkwX4_item_13 : List UInt8 := [21, 5, 4, 184, 0, 106, 184, 0, 147, 184, 0, 106, 54, 14, 21, 13, 153, 0, 12, 21, 14, 4]
abbrev dktX4_item_13 : List UInt8 := dkwX4_item_13 ++ dktX4_item_14
def dkwX4_item_12 : List UInt8 := [21, 5, 4, 184, 0, 106, 184, 0, 106, 167, 0, 27, 21, 10, 21, 5, 184, 0, 147, 21, 11, 21, 10, 100]
abbrev dktX4_item_12 : List UInt8 := dkwX4_item_12 ++ dktX4_item_13
def dkwX4_item_11 : List UInt8 := [154, 0, 12, 21, 5, 4, 184, 0, 106, 167, 0, 51, 21, 11, 156, 0, 22, 21, 10, 21, 5, 184, 0, 147]
abbrev dktX4_item_11 : List UInt8 := dkwX4_item_11 ++ dktX4_item_12
def dkwX4_item_10 : List UInt8 := [180, 0, 96, 21, 14, 42, 182, 0, 103, 79, 42, 21, 6, 181, 0, 64, 42, 21, 8, 181, 0, 21, 21, 9]
abbrev dktX4_item_10 : List UInt8 := dkwX4_item_10 ++ dktX4_item_11
def dkwX4_item_9 : List UInt8 := [182, 0, 143, 21, 13, 153, 0, 27, 42, 16, 13, 3, 3, 182, 0, 87, 54, 15, 42, 180, 0, 33]
abbrev dktX4_item_9 : List UInt8 := dkwX4_item_9 ++ dktX4_item_10
def dkwX4_item_8 : List UInt8 := [16, 12, 3, 3, 182, 0, 87, 167, 0, 4, 3, 54, 14, 42, 27, 28, 21, 10, 21, 11, 21, 12]
abbrev dktX4_item_8 : List UInt8 := dkwX4_item_8 ++ dktX4_item_9
def dkwX4_item_7 : List UInt8 := [180, 0, 140, 54, 12, 42, 180, 0, 131, 54, 13, 42, 180, 0, 37, 153, 0, 75, 21, 13, 153, 0, 14, 42]
abbrev dktX4_item_7 : List UInt8 := dkwX4_item_7 ++ dktX4_item_8
def dkwX4_item_6 : List UInt8 := [42, 89, 180, 0, 74, 4, 96, 181, 0, 74, 42, 180, 0, 134, 54, 10, 42, 180, 0, 137, 54, 11, 42]
abbrev dktX4_item_6 : List UInt8 := dkwX4_item_6 ++ dktX4_item_7
def dkwX4_item_5 : List UInt8 := [154, 0, 17, 187, 0, 28, 89, 42, 180, 0, 21, 4, 100, 183, 0, 30, 191, 42, 180, 0, 131, 153, 0, 13]
abbrev dktX4_item_5 : List UInt8 := dkwX4_item_5 ++ dktX4_item_6
def dkwX4_item_4 : List UInt8 := [153, 0, 39, 42, 180, 0, 71, 157, 0, 11, 42, 180, 0, 74, 29, 164, 0, 24, 42, 180, 0, 37]
abbrev dktX4_item_4 : List UInt8 := dkwX4_item_4 ++ dktX4_item_5
def dkwX4_item_3 : List UInt8 := [153, 0, 9, 42, 27, 28, 182, 0, 124, 21, 5, 172, 42, 180, 0, 128, 54, 9, 42, 180, 0, 131]
abbrev dktX4_item_3 : List UInt8 := dkwX4_item_3 ++ dktX4_item_4
def dkwX4_item_2 : List UInt8 := [182, 0, 116, 182, 0, 120, 54, 7, 42, 180, 0, 21, 54, 8, 21, 7, 154, 0, 19, 42, 180, 0, 37]
abbrev dktX4_item_2 : List UInt8 := dkwX4_item_2 ++ dktX4_item_3
def dkwX4_item_1 : List UInt8 := [181, 0, 37, 42, 182, 0, 113, 54, 5, 42, 21, 4, 181, 0, 37, 42, 180, 0, 64, 54, 6, 42, 42, 27]
abbrev dktX4_item_1 : List UInt8 := dkwX4_item_1 ++ dktX4_item_2
def dkwX4_item_0 : List UInt8 := [42, 180, 0, 21, 60, 42, 180, 0, 64, 61, 42, 180, 0, 74, 62, 42, 180, 0, 37, 54, 4, 42, 3]
abbrev dktX4_item_0 : List UInt8 := dkwX4_item_0 ++ dktX4_item_1
theorem dksX4_item_0 : cX4_item.data.toList.drop 0 = dktX4_item_0 := by decide +kernel
theorem dksX4_item_1 : cX4_item.data.toList.drop 23 = dktX4_item_1 := dk_seg dksX4_item_0 23 rfl rfl
theorem dksX4_item_2 : cX4_item.data.toList.drop 47 = dktX4_item_2 := dk_seg dksX4_item_1 24 rfl rfl
theorem dksX4_item_3 : cX4_item.data.toList.drop 70 = dktX4_item_3 := dk_seg dksX4_item_2 23 rfl rfl
theorem dksX4_item_4 : cX4_item.data.toList.drop 92 = dktX4_item_4 := dk_seg dksX4_item_3 22 rfl rfl
theorem dksX4_item_5 : cX4_item.data.toList.drop 114 = dktX4_item_5 := dk_seg dksX4_item_4 22 rfl rfl
theorem dksX4_item_6 : cX4_item.data.toList.drop 138 = dktX4_item_6 := dk_seg dksX4_item_5 24 rfl rfl
theorem dksX4_item_7 : cX4_item.data.toList.drop 161 = dktX4_item_7 := dk_seg dksX4_item_6 23 rfl rfl
theorem dksX4_item_8 : cX4_item.data.toList.drop 185 = dktX4_item_8 := dk_seg dksX4_item_7 24 rfl rfl
theorem dksX4_item_9 : cX4_item.data.toList.drop 207 = dktX4_item_9 := dk_seg dksX4_item_8 22 rfl rfl
theorem dksX4_item_10 : cX4_item.data.toList.drop 229 = dktX4_item_10 := dk_seg dksX4_item_9 22 rfl rfl
theorem dksX4_item_11 : cX4_item.data.toList.drop 253 = dktX4_item_11 := dk_seg dksX4_item_10 24 rfl rfl
theorem dksX4_item_12 : cX4_item.data.toList.drop 277 = dktX4_item_12 := dk_seg dksX4_item_11 24 rfl rfl
theorem dksX4_item_13 : cX4_item.data.toList.drop 301 = dktX4_item_13 := dk_seg dksX4_item_12 24 rfl rfl
theorem dksX4_item_14 : cX4_item.data.toList.drop 323 = dktX4_item_14 := dk_seg dksX4_item_13 22 rfl rfl
theorem dX4_item_0 : decode cX4_item 0 = .ok (.aload_n 0, 1) := dk_42 (dk_at dksX4_item_0 0 rfl rfl)
theorem dX4_item_1 : decode cX4_item 1 = .ok (.getfield 21, 3) := dk_180 0 21 (dk_at dksX4_item_0 1 rfl rfl)
theorem dX4_item_4 : decode cX4_item 4 = .ok (.istore_n 1, 1) := dk_60 (dk_at dksX4_item_0 4 rfl rfl)
theorem dX4_item_5 : decode cX4_item 5 = .ok (.aload_n 0, 1) := dk_42 (dk_at dksX4_item_0 5 rfl rfl)
theorem dX4_item_6 : decode cX4_item 6 = .ok (.getfield 64, 3) := dk_180 0 64 (dk_at dksX4_item_0 6 rfl rfl)
theorem dX4_item_9 : decode cX4_item 9 = .ok (.istore_n 2, 1) := dk_61 (dk_at dksX4_item_0 9 rfl rfl)
theorem dX4_item_10 : decode cX4_item 10 = .ok (.aload_n 0, 1) := dk_42 (dk_at dksX4_item_0 10 rfl rfl)
theorem dX4_item_11 : decode cX4_item 11 = .ok (.getfield 74, 3) := dk_180 0 74 (dk_at dksX4_item_0 11 rfl rfl)
theorem dX4_item_14 : decode cX4_item 14 = .ok (.istore_n 3, 1) := dk_62 (dk_at dksX4_item_0 14 rfl rfl)
theorem dX4_item_15 : decode cX4_item 15 = .ok (.aload_n 0, 1) := dk_42 (dk_at dksX4_item_0 15 rfl rfl)
theorem dX4_item_16 : decode cX4_item 16 = .ok (.getfield 37, 3) := dk_180 0 37 (dk_at dksX4_item_0 16 rfl rfl)
theorem dX4_item_19 : decode cX4_item 19 = .ok (.istore 4, 2) := dk_54 4 (dk_at dksX4_item_0 19 rfl rfl)
theorem dX4_item_21 : decode cX4_item 21 = .ok (.aload_n 0, 1) := dk_42 (dk_at dksX4_item_0 21 rfl rfl)
theorem dX4_item_22 : decode cX4_item 22 = .ok (.iconst 0, 1) := dk_3 (dk_at dksX4_item_0 22 rfl rfl)
theorem dX4_item_23 : decode cX4_item 23 = .ok (.putfield 37, 3) := dk_181 0 37 (dk_at dksX4_item_1 0 rfl rfl)
theorem dX4_item_26 : decode cX4_item 26 = .ok (.aload_n 0, 1) := dk_42 (dk_at dksX4_item_1 3 rfl rfl)
theorem dX4_item_27 : decode cX4_item 27 = .ok (.invokevirtual 113, 3) := dk_182 0 113 (dk_at dksX4_item_1 4 rfl rfl)
theorem dX4_item_30 : decode cX4_item 30 = .ok (.istore 5, 2) := dk_54 5 (dk_at dksX4_item_1 7 rfl rfl)
theorem dX4_item_32 : decode cX4_item 32 = .ok (.aload_n 0, 1) := dk_42 (dk_at dksX4_item_1 9 rfl rfl)
theorem dX4_item_33 : decode cX4_item 33 = .ok (.iload 4, 2) := dk_21 4 (dk_at dksX4_item_1 10 rfl rfl)
theorem dX4_item_35 : decode cX4_item 35 = .ok (.putfield 37, 3) := dk_181 0 37 (dk_at dksX4_item_1 12 rfl rfl)
theorem dX4_item_38 : decode cX4_item 38 = .ok (.aload_n 0, 1) := dk_42 (dk_at dksX4_item_1 15 rfl rfl)
theorem dX4_item_39 : decode cX4_item 39 = .ok (.getfield 64, 3) := dk_180 0 64 (dk_at dksX4_item_1 16 rfl rfl)
theorem dX4_item_42 : decode cX4_item 42 = .ok (.istore 6, 2) := dk_54 6 (dk_at dksX4_item_1 19 rfl rfl)
theorem dX4_item_44 : decode cX4_item 44 = .ok (.aload_n 0, 1) := dk_42 (dk_at dksX4_item_1 21 rfl rfl)
theorem dX4_item_45 : decode cX4_item 45 = .ok (.aload_n 0, 1) := dk_42 (dk_at dksX4_item_1 22 rfl rfl)
theorem dX4_item_46 : decode cX4_item 46 = .ok (.iload_n 1, 1) := dk_27 (dk_at dksX4_item_1 23 rfl rfl)
theorem dX4_item_47 : decode cX4_item 47 = .ok (.invokevirtual 116, 3) := dk_182 0 116 (dk_at dksX4_item_2 0 rfl rfl)
theorem dX4_item_50 : decode cX4_item 50 = .ok (.invokevirtual 120, 3) := dk_182 0 120 (dk_at dksX4_item_2 3 rfl rfl)
theorem dX4_item_53 : decode cX4_item 53 = .ok (.istore 7, 2) := dk_54 7 (dk_at dksX4_item_2 6 rfl rfl)
theorem dX4_item_55 : decode cX4_item 55 = .ok (.aload_n 0, 1) := dk_42 (dk_at dksX4_item_2 8 rfl rfl)
theorem dX4_item_56 : decode cX4_item 56 = .ok (.getfield 21, 3) := dk_180 0 21 (dk_at dksX4_item_2 9 rfl rfl)
theorem dX4_item_59 : decode cX4_item 59 = .ok (.istore 8, 2) := dk_54 8 (dk_at dksX4_item_2 12 rfl rfl)
theorem dX4_item_61 : decode cX4_item 61 = .ok (.iload 7, 2) := dk_21 7 (dk_at dksX4_item_2 14 rfl rfl)
theorem dX4_item_63 : decode cX4_item 63 = .ok (.ifCond .ne 19, 3) := dk_154 0 19 (dk_at dksX4_item_2 16 rfl rfl)
theorem dX4_item_66 : decode cX4_item 66 = .ok (.aload_n 0, 1) := dk_42 (dk_at dksX4_item_2 19 rfl rfl)
theorem dX4_item_67 : decode cX4_item 67 = .ok (.getfield 37, 3) := dk_180 0 37 (dk_at dksX4_item_2 20 rfl rfl)
theorem dX4_item_70 : decode cX4_item 70 = .ok (.ifCond .eq 9, 3) := dk_153 0 9 (dk_at dksX4_item_3 0 rfl rfl)
theorem dX4_item_73 : decode cX4_item 73 = .ok (.aload_n 0, 1) := dk_42 (dk_at dksX4_item_3 3 rfl rfl)
theorem dX4_item_74 : decode cX4_item 74 = .ok (.iload_n 1, 1) := dk_27 (dk_at dksX4_item_3 4 rfl rfl)
theorem dX4_item_75 : decode cX4_item 75 = .ok (.iload_n 2, 1) := dk_28 (dk_at dksX4_item_3 5 rfl rfl)
theorem dX4_item_76 : decode cX4_item 76 = .ok (.invokevirtual 124, 3) := dk_182 0 124 (dk_at dksX4_item_3 6 rfl rfl)
theorem dX4_item_79 : decode cX4_item 79 = .ok (.iload 5, 2) := dk_21 5 (dk_at dksX4_item_3 9 rfl rfl)
theorem dX4_item_81 : decode cX4_item 81 = .ok (.ireturn, 1) := dk_172 (dk_at dksX4_item_3 11 rfl rfl)
theorem dX4_item_82 : decode cX4_item 82 = .ok (.aload_n 0, 1) := dk_42 (dk_at dksX4_item_3 12 rfl rfl)
theorem dX4_item_83 : decode cX4_item 83 = .ok (.getfield 128, 3) := dk_180 0 128 (dk_at dksX4_item_3 13 rfl rfl)
theorem dX4_item_86 : decode cX4_item 86 = .ok (.istore 9, 2) := dk_54 9 (dk_at dksX4_item_3 16 rfl rfl)
theorem dX4_item_88 : decode cX4_item 88 = .ok (.aload_n 0, 1) := dk_42 (dk_at dksX4_item_3 18 rfl rfl)
theorem dX4_item_89 : decode cX4_item 89 = .ok (.getfield 131, 3) := dk_180 0 131 (dk_at dksX4_item_3 19 rfl rfl)
theorem dX4_item_92 : decode cX4_item 92 = .ok (.ifCond .eq 39, 3) := dk_153 0 39 (dk_at dksX4_item_4 0 rfl rfl)
theorem dX4_item_95 : decode cX4_item 95 = .ok (.aload_n 0, 1) := dk_42 (dk_at dksX4_item_4 3 rfl rfl)
theorem dX4_item_96 : decode cX4_item 96 = .ok (.getfield 71, 3) := dk_180 0 71 (dk_at dksX4_item_4 4 rfl rfl)
theorem dX4_item_99 : decode cX4_item 99 = .ok (.ifCond .gt 11, 3) := dk_157 0 11 (dk_at dksX4_item_4 7 rfl rfl)
theorem dX4_item_102 : decode cX4_item 102 = .ok (.aload_n 0, 1) := dk_42 (dk_at dksX4_item_4 10 rfl rfl)
theorem dX4_item_103 : decode cX4_item 103 = .ok (.getfield 74, 3) := dk_180 0 74 (dk_at dksX4_item_4 11 rfl rfl)
theorem dX4_item_106 : decode cX4_item 106 = .ok (.iload_n 3, 1) := dk_29 (dk_at dksX4_item_4 14 rfl rfl)
theorem dX4_item_107 : decode cX4_item 107 = .ok (.if_icmp .le 24, 3) := dk_164 0 24 (dk_at dksX4_item_4 15 rfl rfl)
theorem dX4_item_110 : decode cX4_item 110 = .ok (.aload_n 0, 1) := dk_42 (dk_at dksX4_item_4 18 rfl rfl)
theorem dX4_item_111 : decode cX4_item 111 = .ok (.getfield 37, 3) := dk_180 0 37 (dk_at dksX4_item_4 19 rfl rfl)
theorem dX4_item_114 : decode cX4_item 114 = .ok (.ifCond .ne 17, 3) := dk_154 0 17 (dk_at dksX4_item_5 0 rfl rfl)
theorem dX4_item_117 : decode cX4_item 117 = .ok (.new 28, 3) := dk_187 0 28 (dk_at dksX4_item_5 3 rfl rfl)
theorem dX4_item_120 : decode cX4_item 120 = .ok (.dup, 1) := dk_89 (dk_at dksX4_item_5 6 rfl rfl)
theorem dX4_item_121 : decode cX4_item 121 = .ok (.aload_n 0, 1) := dk_42 (dk_at dksX4_item_5 7 rfl rfl)
theorem dX4_item_122 : decode cX4_item 122 = .ok (.getfield 21, 3) := dk_180 0 21 (dk_at dksX4_item_5 8 rfl rfl)
theorem dX4_item_125 : decode cX4_item 125 = .ok (.iconst 1, 1) := dk_4 (dk_at dksX4_item_5 11 rfl rfl)
theorem dX4_item_126 : decode cX4_item 126 = .ok (.isub, 1) := dk_100 (dk_at dksX4_item_5 12 rfl rfl)
theorem dX4_item_127 : decode cX4_item 127 = .ok (.invokespecial 30, 3) := dk_183 0 30 (dk_at dksX4_item_5 13 rfl rfl)
theorem dX4_item_130 : decode cX4_item 130 = .ok (.athrow, 1) := dk_191 (dk_at dksX4_item_5 16 rfl rfl)
theorem dX4_item_131 : decode cX4_item 131 = .ok (.aload_n 0, 1) := dk_42 (dk_at dksX4_item_5 17 rfl rfl)
theorem dX4_item_132 : decode cX4_item 132 = .ok (.getfield 131, 3) := dk_180 0 131 (dk_at dksX4_item_5 18 rfl rfl)
theorem dX4_item_135 : decode cX4_item 135 = .ok (.ifCond .eq 13, 3) := dk_153 0 13 (dk_at dksX4_item_5 21 rfl rfl)
theorem dX4_item_138 : decode cX4_item 138 = .ok (.aload_n 0, 1) := dk_42 (dk_at dksX4_item_6 0 rfl rfl)
theorem dX4_item_139 : decode cX4_item 139 = .ok (.dup, 1) := dk_89 (dk_at dksX4_item_6 1 rfl rfl)
theorem dX4_item_140 : decode cX4_item 140 = .ok (.getfield 74, 3) := dk_180 0 74 (dk_at dksX4_item_6 2 rfl rfl)
theorem dX4_item_143 : decode cX4_item 143 = .ok (.iconst 1, 1) := dk_4 (dk_at dksX4_item_6 5 rfl rfl)
theorem dX4_item_144 : decode cX4_item 144 = .ok (.iadd, 1) := dk_96 (dk_at dksX4_item_6 6 rfl rfl)
theorem dX4_item_145 : decode cX4_item 145 = .ok (.putfield 74, 3) := dk_181 0 74 (dk_at dksX4_item_6 7 rfl rfl)
theorem dX4_item_148 : decode cX4_item 148 = .ok (.aload_n 0, 1) := dk_42 (dk_at dksX4_item_6 10 rfl rfl)
theorem dX4_item_149 : decode cX4_item 149 = .ok (.getfield 134, 3) := dk_180 0 134 (dk_at dksX4_item_6 11 rfl rfl)
theorem dX4_item_152 : decode cX4_item 152 = .ok (.istore 10, 2) := dk_54 10 (dk_at dksX4_item_6 14 rfl rfl)
theorem dX4_item_154 : decode cX4_item 154 = .ok (.aload_n 0, 1) := dk_42 (dk_at dksX4_item_6 16 rfl rfl)
theorem dX4_item_155 : decode cX4_item 155 = .ok (.getfield 137, 3) := dk_180 0 137 (dk_at dksX4_item_6 17 rfl rfl)
theorem dX4_item_158 : decode cX4_item 158 = .ok (.istore 11, 2) := dk_54 11 (dk_at dksX4_item_6 20 rfl rfl)
theorem dX4_item_160 : decode cX4_item 160 = .ok (.aload_n 0, 1) := dk_42 (dk_at dksX4_item_6 22 rfl rfl)
theorem dX4_item_161 : decode cX4_item 161 = .ok (.getfield 140, 3) := dk_180 0 140 (dk_at dksX4_item_7 0 rfl rfl)
theorem dX4_item_164 : decode cX4_item 164 = .ok (.istore 12, 2) := dk_54 12 (dk_at dksX4_item_7 3 rfl rfl)
theorem dX4_item_166 : decode cX4_item 166 = .ok (.aload_n 0, 1) := dk_42 (dk_at dksX4_item_7 5 rfl rfl)
theorem dX4_item_167 : decode cX4_item 167 = .ok (.getfield 131, 3) := dk_180 0 131 (dk_at dksX4_item_7 6 rfl rfl)
theorem dX4_item_170 : decode cX4_item 170 = .ok (.istore 13, 2) := dk_54 13 (dk_at dksX4_item_7 9 rfl rfl)
theorem dX4_item_172 : decode cX4_item 172 = .ok (.aload_n 0, 1) := dk_42 (dk_at dksX4_item_7 11 rfl rfl)
theorem dX4_item_173 : decode cX4_item 173 = .ok (.getfield 37, 3) := dk_180 0 37 (dk_at dksX4_item_7 12 rfl rfl)
theorem dX4_item_176 : decode cX4_item 176 = .ok (.ifCond .eq 75, 3) := dk_153 0 75 (dk_at dksX4_item_7 15 rfl rfl)
theorem dX4_item_179 : decode cX4_item 179 = .ok (.iload 13, 2) := dk_21 13 (dk_at dksX4_item_7 18 rfl rfl)
theorem dX4_item_181 : decode cX4_item 181 = .ok (.ifCond .eq 14, 3) := dk_153 0 14 (dk_at dksX4_item_7 20 rfl rfl)
theorem dX4_item_184 : decode cX4_item 184 = .ok (.aload_n 0, 1) := dk_42 (dk_at dksX4_item_7 23 rfl rfl)
theorem dX4_item_185 : decode cX4_item 185 = .ok (.bipush 12, 2) := dk_16 12 (dk_at dksX4_item_8 0 rfl rfl)
theorem dX4_item_187 : decode cX4_item 187 = .ok (.iconst 0, 1) := dk_3 (dk_at dksX4_item_8 2 rfl rfl)
theorem dX4_item_188 : decode cX4_item 188 = .ok (.iconst 0, 1) := dk_3 (dk_at dksX4_item_8 3 rfl rfl)
theorem dX4_item_189 : decode cX4_item 189 = .ok (.invokevirtual 87, 3) := dk_182 0 87 (dk_at dksX4_item_8 4 rfl rfl)
theorem dX4_item_192 : decode cX4_item 192 = .ok (.goto 4, 3) := dk_167 0 4 (dk_at dksX4_item_8 7 rfl rfl)
theorem dX4_item_195 : decode cX4_item 195 = .ok (.iconst 0, 1) := dk_3 (dk_at dksX4_item_8 10 rfl rfl)
theorem dX4_item_196 : decode cX4_item 196 = .ok (.istore 14, 2) := dk_54 14 (dk_at dksX4_item_8 11 rfl rfl)
theorem dX4_item_198 : decode cX4_item 198 = .ok (.aload_n 0, 1) := dk_42 (dk_at dksX4_item_8 13 rfl rfl)
theorem dX4_item_199 : decode cX4_item 199 = .ok (.iload_n 1, 1) := dk_27 (dk_at dksX4_item_8 14 rfl rfl)
theorem dX4_item_200 : decode cX4_item 200 = .ok (.iload_n 2, 1) := dk_28 (dk_at dksX4_item_8 15 rfl rfl)
theorem dX4_item_201 : decode cX4_item 201 = .ok (.iload 10, 2) := dk_21 10 (dk_at dksX4_item_8 16 rfl rfl)
theorem dX4_item_203 : decode cX4_item 203 = .ok (.iload 11, 2) := dk_21 11 (dk_at dksX4_item_8 18 rfl rfl)
theorem dX4_item_205 : decode cX4_item 205 = .ok (.iload 12, 2) := dk_21 12 (dk_at dksX4_item_8 20 rfl rfl)
theorem dX4_item_207 : decode cX4_item 207 = .ok (.invokevirtual 143, 3) := dk_182 0 143 (dk_at dksX4_item_9 0 rfl rfl)
theorem dX4_item_210 : decode cX4_item 210 = .ok (.iload 13, 2) := dk_21 13 (dk_at dksX4_item_9 3 rfl rfl)
theorem dX4_item_212 : decode cX4_item 212 = .ok (.ifCond .eq 27, 3) := dk_153 0 27 (dk_at dksX4_item_9 5 rfl rfl)
theorem dX4_item_215 : decode cX4_item 215 = .ok (.aload_n 0, 1) := dk_42 (dk_at dksX4_item_9 8 rfl rfl)
theorem dX4_item_216 : decode cX4_item 216 = .ok (.bipush 13, 2) := dk_16 13 (dk_at dksX4_item_9 9 rfl rfl)
theorem dX4_item_218 : decode cX4_item 218 = .ok (.iconst 0, 1) := dk_3 (dk_at dksX4_item_9 11 rfl rfl)
theorem dX4_item_219 : decode cX4_item 219 = .ok (.iconst 0, 1) := dk_3 (dk_at dksX4_item_9 12 rfl rfl)
theorem dX4_item_220 : decode cX4_item 220 = .ok (.invokevirtual 87, 3) := dk_182 0 87 (dk_at dksX4_item_9 13 rfl rfl)
theorem dX4_item_223 : decode cX4_item 223 = .ok (.istore 15, 2) := dk_54 15 (dk_at dksX4_item_9 16 rfl rfl)
theorem dX4_item_225 : decode cX4_item 225 = .ok (.aload_n 0, 1) := dk_42 (dk_at dksX4_item_9 18 rfl rfl)
theorem dX4_item_226 : decode cX4_item 226 = .ok (.getfield 33, 3) := dk_180 0 33 (dk_at dksX4_item_9 19 rfl rfl)
theorem dX4_item_229 : decode cX4_item 229 = .ok (.getfield 96, 3) := dk_180 0 96 (dk_at dksX4_item_10 0 rfl rfl)
theorem dX4_item_232 : decode cX4_item 232 = .ok (.iload 14, 2) := dk_21 14 (dk_at dksX4_item_10 3 rfl rfl)
theorem dX4_item_234 : decode cX4_item 234 = .ok (.aload_n 0, 1) := dk_42 (dk_at dksX4_item_10 5 rfl rfl)
theorem dX4_item_235 : decode cX4_item 235 = .ok (.invokevirtual 103, 3) := dk_182 0 103 (dk_at dksX4_item_10 6 rfl rfl)
theorem dX4_item_238 : decode cX4_item 238 = .ok (.iastore, 1) := dk_79 (dk_at dksX4_item_10 9 rfl rfl)
theorem dX4_item_239 : decode cX4_item 239 = .ok (.aload_n 0, 1) := dk_42 (dk_at dksX4_item_10 10 rfl rfl)
theorem dX4_item_240 : decode cX4_item 240 = .ok (.iload 6, 2) := dk_21 6 (dk_at dksX4_item_10 11 rfl rfl)
theorem dX4_item_242 : decode cX4_item 242 = .ok (.putfield 64, 3) := dk_181 0 64 (dk_at dksX4_item_10 13 rfl rfl)
theorem dX4_item_245 : decode cX4_item 245 = .ok (.aload_n 0, 1) := dk_42 (dk_at dksX4_item_10 16 rfl rfl)
theorem dX4_item_246 : decode cX4_item 246 = .ok (.iload 8, 2) := dk_21 8 (dk_at dksX4_item_10 17 rfl rfl)
theorem dX4_item_248 : decode cX4_item 248 = .ok (.putfield 21, 3) := dk_181 0 21 (dk_at dksX4_item_10 19 rfl rfl)
theorem dX4_item_251 : decode cX4_item 251 = .ok (.iload 9, 2) := dk_21 9 (dk_at dksX4_item_10 22 rfl rfl)
theorem dX4_item_253 : decode cX4_item 253 = .ok (.ifCond .ne 12, 3) := dk_154 0 12 (dk_at dksX4_item_11 0 rfl rfl)
theorem dX4_item_256 : decode cX4_item 256 = .ok (.iload 5, 2) := dk_21 5 (dk_at dksX4_item_11 3 rfl rfl)
theorem dX4_item_258 : decode cX4_item 258 = .ok (.iconst 1, 1) := dk_4 (dk_at dksX4_item_11 5 rfl rfl)
theorem dX4_item_259 : decode cX4_item 259 = .ok (.invokestatic 106, 3) := dk_184 0 106 (dk_at dksX4_item_11 6 rfl rfl)
theorem dX4_item_262 : decode cX4_item 262 = .ok (.goto 51, 3) := dk_167 0 51 (dk_at dksX4_item_11 9 rfl rfl)
theorem dX4_item_265 : decode cX4_item 265 = .ok (.iload 11, 2) := dk_21 11 (dk_at dksX4_item_11 12 rfl rfl)
theorem dX4_item_267 : decode cX4_item 267 = .ok (.ifCond .ge 22, 3) := dk_156 0 22 (dk_at dksX4_item_11 14 rfl rfl)
theorem dX4_item_270 : decode cX4_item 270 = .ok (.iload 10, 2) := dk_21 10 (dk_at dksX4_item_11 17 rfl rfl)
theorem dX4_item_272 : decode cX4_item 272 = .ok (.iload 5, 2) := dk_21 5 (dk_at dksX4_item_11 19 rfl rfl)
theorem dX4_item_274 : decode cX4_item 274 = .ok (.invokestatic 147, 3) := dk_184 0 147 (dk_at dksX4_item_11 21 rfl rfl)
theorem dX4_item_277 : decode cX4_item 277 = .ok (.iload 5, 2) := dk_21 5 (dk_at dksX4_item_12 0 rfl rfl)
theorem dX4_item_279 : decode cX4_item 279 = .ok (.iconst 1, 1) := dk_4 (dk_at dksX4_item_12 2 rfl rfl)
theorem dX4_item_280 : decode cX4_item 280 = .ok (.invokestatic 106, 3) := dk_184 0 106 (dk_at dksX4_item_12 3 rfl rfl)
theorem dX4_item_283 : decode cX4_item 283 = .ok (.invokestatic 106, 3) := dk_184 0 106 (dk_at dksX4_item_12 6 rfl rfl)
theorem dX4_item_286 : decode cX4_item 286 = .ok (.goto 27, 3) := dk_167 0 27 (dk_at dksX4_item_12 9 rfl rfl)
theorem dX4_item_289 : decode cX4_item 289 = .ok (.iload 10, 2) := dk_21 10 (dk_at dksX4_item_12 12 rfl rfl)
theorem dX4_item_291 : decode cX4_item 291 = .ok (.iload 5, 2) := dk_21 5 (dk_at dksX4_item_12 14 rfl rfl)
theorem dX4_item_293 : decode cX4_item 293 = .ok (.invokestatic 147, 3) := dk_184 0 147 (dk_at dksX4_item_12 16 rfl rfl)
theorem dX4_item_296 : decode cX4_item 296 = .ok (.iload 11, 2) := dk_21 11 (dk_at dksX4_item_12 19 rfl rfl)
theorem dX4_item_298 : decode cX4_item 298 = .ok (.iload 10, 2) := dk_21 10 (dk_at dksX4_item_12 21 rfl rfl)
theorem dX4_item_300 : decode cX4_item 300 = .ok (.isub, 1) := dk_100 (dk_at dksX4_item_12 23 rfl rfl)
theorem dX4_item_301 : decode cX4_item 301 = .ok (.iload 5, 2) := dk_21 5 (dk_at dksX4_item_13 0 rfl rfl)
theorem dX4_item_303 : decode cX4_item 303 = .ok (.iconst 1, 1) := dk_4 (dk_at dksX4_item_13 2 rfl rfl)
theorem dX4_item_304 : decode cX4_item 304 = .ok (.invokestatic 106, 3) := dk_184 0 106 (dk_at dksX4_item_13 3 rfl rfl)
theorem dX4_item_307 : decode cX4_item 307 = .ok (.invokestatic 147, 3) := dk_184 0 147 (dk_at dksX4_item_13 6 rfl rfl)
theorem dX4_item_310 : decode cX4_item 310 = .ok (.invokestatic 106, 3) := dk_184 0 106 (dk_at dksX4_item_13 9 rfl rfl)
theorem dX4_item_313 : decode cX4_item 313 = .ok (.istore 14, 2) := dk_54 14 (dk_at dksX4_item_13 12 rfl rfl)
theorem dX4_item_315 : decode cX4_item 315 = .ok (.iload 13, 2) := dk_21 13 (dk_at dksX4_item_13 14 rfl rfl)
theorem dX4_item_317 : decode cX4_item 317 = .ok (.ifCond .eq 12, 3) := dk_153 0 12 (dk_at dksX4_item_13 16 rfl rfl)
theorem dX4_item_320 : decode cX4_item 320 = .ok (.iload 14, 2) := dk_21 14 (dk_at dksX4_item_13 19 rfl rfl)
theorem dX4_item_322 : decode cX4_item 322 = .ok (.iconst 1, 1) := dk_4 (dk_at dksX4_item_13 21 rfl rfl)
theorem dX4_item_323 : decode cX4_item 323 = .ok (.invokestatic 106, 3) := dk_184 0 106 (dk_at dksX4_item_14 0 rfl rfl)
theorem dX4_item_326 : decode cX4_item 326 = .ok (.goto 5, 3) := dk_167 0 5 (dk_at dksX4_item_14 3 rfl rfl)
theorem dX4_item_329 : decode cX4_item 329 = .ok (.iload 14, 2) := dk_21 14 (dk_at dksX4_item_14 6 rfl rfl)
theorem dX4_item_331 : decode cX4_item 331 = .ok (.ireturn, 1) := dk_172 (dk_at dksX4_item_14 8 rfl rfl)
abbrev cX4_atom : ByteArray := prog_21_method_25_code
def yX4_atom : MethodName := ⟨RX4, "atom", "()I"⟩
def dkwX4_atom_7 : List UInt8 := [182, 0, 87, 54, 4, 4, 172]
abbrev dktX4_atom_7 : List UInt8 := dkwX4_atom_7 ++ []
def dkwX4_atom_6 : List UInt8 := [16, 123, 160, 0, 8, 42, 182, 0, 48, 191, 42, 89, 180, 0, 21, 4, 96, 181, 0, 21, 42, 3, 27, 3]
abbrev dktX4_atom_6 : List UInt8 := dkwX4_atom_6 ++ dktX4_atom_7
def dkwX4_atom_5 : List UInt8 := [16, 126, 163, 0, 27, 27, 16, 42, 159, 0, 21, 27, 16, 43, 159, 0, 15, 27, 16, 63, 159, 0, 9, 27]
abbrev dktX4_atom_5 : List UInt8 := dkwX4_atom_5 ++ dktX4_atom_6
def dkwX4_atom_4 : List UInt8 := [167, 0, 4, 7, 3, 3, 182, 0, 87, 62, 4, 172, 42, 182, 0, 187, 172, 27, 16, 32, 161, 0, 33, 27]
abbrev dktX4_atom_4 : List UInt8 := dkwX4_atom_4 ++ dktX4_atom_5
def dkwX4_atom_3 : List UInt8 := [182, 0, 87, 61, 4, 172, 42, 89, 180, 0, 21, 4, 96, 181, 0, 21, 42, 27, 16, 94, 160, 0, 7, 6]
abbrev dktX4_atom_3 : List UInt8 := dkwX4_atom_3 ++ dktX4_atom_4
def dkwX4_atom_2 : List UInt8 := [42, 182, 0, 181, 172, 42, 182, 0, 184, 172, 42, 89, 180, 0, 21, 4, 96, 181, 0, 21, 42, 4, 3, 3]
abbrev dktX4_atom_2 : List UInt8 := dkwX4_atom_2 ++ dktX4_atom_3
def dkwX4_atom_1 : List UInt8 := [171, 0, 0, 0, 0, 123, 0, 0, 0, 6, 0, 0, 0, 36, 0, 0, 0, 88, 0, 0, 0, 40, 0, 0, 0, 58, 0, 0, 0, 46, 0, 0, 0, 68, 0, 0, 0, 91, 0, 0, 0, 63, 0, 0, 0, 92, 0, 0, 0, 118, 0, 0, 0, 94, 0, 0, 0, 88]
abbrev dktX4_atom_1 : List UInt8 := dkwX4_atom_1 ++ dktX4_atom_2
def dkwX4_atom_0 : List UInt8 := [42, 182, 0, 93, 60, 27]
abbrev dktX4_atom_0 : List UInt8 := dkwX4_atom_0 ++ dktX4_atom_1
theorem dksX4_atom_0 : cX4_atom.data.toList.drop 0 = dktX4_atom_0 := by decide +kernel
theorem dksX4_atom_1 : cX4_atom.data.toList.drop 6 = dktX4_atom_1 := dk_seg dksX4_atom_0 6 rfl rfl
theorem dksX4_atom_2 : cX4_atom.data.toList.drop 64 = dktX4_atom_2 := dk_seg dksX4_atom_1 58 rfl rfl
theorem dksX4_atom_3 : cX4_atom.data.toList.drop 88 = dktX4_atom_3 := dk_seg dksX4_atom_2 24 rfl rfl
theorem dksX4_atom_4 : cX4_atom.data.toList.drop 112 = dktX4_atom_4 := dk_seg dksX4_atom_3 24 rfl rfl
theorem dksX4_atom_5 : cX4_atom.data.toList.drop 136 = dktX4_atom_5 := dk_seg dksX4_atom_4 24 rfl rfl
theorem dksX4_atom_6 : cX4_atom.data.toList.drop 160 = dktX4_atom_6 := dk_seg dksX4_atom_5 24 rfl rfl
theorem dksX4_atom_7 : cX4_atom.data.toList.drop 184 = dktX4_atom_7 := dk_seg dksX4_atom_6 24 rfl rfl
theorem dX4_atom_0 : decode cX4_atom 0 = .ok (.aload_n 0, 1) := dk_42 (dk_at dksX4_atom_0 0 rfl rfl)
theorem dX4_atom_1 : decode cX4_atom 1 = .ok (.invokevirtual 93, 3) := dk_182 0 93 (dk_at dksX4_atom_0 1 rfl rfl)
theorem dX4_atom_4 : decode cX4_atom 4 = .ok (.istore_n 1, 1) := dk_60 (dk_at dksX4_atom_0 4 rfl rfl)
theorem dX4_atom_5 : decode cX4_atom 5 = .ok (.iload_n 1, 1) := dk_27 (dk_at dksX4_atom_0 5 rfl rfl)
theorem dX4_atom_6 : decode cX4_atom 6 = .ok (.lookupswitch 123 #[(36, 88), (40, 58), (46, 68), (91, 63), (92, 118), (94, 88)], 58) := by decide +kernel
theorem dX4_atom_64 : decode cX4_atom 64 = .ok (.aload_n 0, 1) := dk_42 (dk_at dksX4_atom_2 0 rfl rfl)
theorem dX4_atom_65 : decode cX4_atom 65 = .ok (.invokevirtual 181, 3) := dk_182 0 181 (dk_at dksX4_atom_2 1 rfl rfl)
theorem dX4_atom_68 : decode cX4_atom 68 = .ok (.ireturn, 1) := dk_172 (dk_at dksX4_atom_2 4 rfl rfl)
theorem dX4_atom_69 : decode cX4_atom 69 = .ok (.aload_n 0, 1) := dk_42 (dk_at dksX4_atom_2 5 rfl rfl)
theorem dX4_atom_70 : decode cX4_atom 70 = .ok (.invokevirtual 184, 3) := dk_182 0 184 (dk_at dksX4_atom_2 6 rfl rfl)
theorem dX4_atom_73 : decode cX4_atom 73 = .ok (.ireturn, 1) := dk_172 (dk_at dksX4_atom_2 9 rfl rfl)
theorem dX4_atom_74 : decode cX4_atom 74 = .ok (.aload_n 0, 1) := dk_42 (dk_at dksX4_atom_2 10 rfl rfl)
theorem dX4_atom_75 : decode cX4_atom 75 = .ok (.dup, 1) := dk_89 (dk_at dksX4_atom_2 11 rfl rfl)
theorem dX4_atom_76 : decode cX4_atom 76 = .ok (.getfield 21, 3) := dk_180 0 21 (dk_at dksX4_atom_2 12 rfl rfl)
theorem dX4_atom_79 : decode cX4_atom 79 = .ok (.iconst 1, 1) := dk_4 (dk_at dksX4_atom_2 15 rfl rfl)
theorem dX4_atom_80 : decode cX4_atom 80 = .ok (.iadd, 1) := dk_96 (dk_at dksX4_atom_2 16 rfl rfl)
theorem dX4_atom_81 : decode cX4_atom 81 = .ok (.putfield 21, 3) := dk_181 0 21 (dk_at dksX4_atom_2 17 rfl rfl)
theorem dX4_atom_84 : decode cX4_atom 84 = .ok (.aload_n 0, 1) := dk_42 (dk_at dksX4_atom_2 20 rfl rfl)
theorem dX4_atom_85 : decode cX4_atom 85 = .ok (.iconst 1, 1) := dk_4 (dk_at dksX4_atom_2 21 rfl rfl)
theorem dX4_atom_86 : decode cX4_atom 86 = .ok (.iconst 0, 1) := dk_3 (dk_at dksX4_atom_2 22 rfl rfl)
theorem dX4_atom_87 : decode cX4_atom 87 = .ok (.iconst 0, 1) := dk_3 (dk_at dksX4_atom_2 23 rfl rfl)
theorem dX4_atom_88 : decode cX4_atom 88 = .ok (.invokevirtual 87, 3) := dk_182 0 87 (dk_at dksX4_atom_3 0 rfl rfl)
theorem dX4_atom_91 : decode cX4_atom 91 = .ok (.istore_n 2, 1) := dk_61 (dk_at dksX4_atom_3 3 rfl rfl)
theorem dX4_atom_92 : decode cX4_atom 92 = .ok (.iconst 1, 1) := dk_4 (dk_at dksX4_atom_3 4 rfl rfl)
theorem dX4_atom_93 : decode cX4_atom 93 = .ok (.ireturn, 1) := dk_172 (dk_at dksX4_atom_3 5 rfl rfl)
theorem dX4_atom_94 : decode cX4_atom 94 = .ok (.aload_n 0, 1) := dk_42 (dk_at dksX4_atom_3 6 rfl rfl)
theorem dX4_atom_95 : decode cX4_atom 95 = .ok (.dup, 1) := dk_89 (dk_at dksX4_atom_3 7 rfl rfl)
theorem dX4_atom_96 : decode cX4_atom 96 = .ok (.getfield 21, 3) := dk_180 0 21 (dk_at dksX4_atom_3 8 rfl rfl)
theorem dX4_atom_99 : decode cX4_atom 99 = .ok (.iconst 1, 1) := dk_4 (dk_at dksX4_atom_3 11 rfl rfl)
theorem dX4_atom_100 : decode cX4_atom 100 = .ok (.iadd, 1) := dk_96 (dk_at dksX4_atom_3 12 rfl rfl)
theorem dX4_atom_101 : decode cX4_atom 101 = .ok (.putfield 21, 3) := dk_181 0 21 (dk_at dksX4_atom_3 13 rfl rfl)
theorem dX4_atom_104 : decode cX4_atom 104 = .ok (.aload_n 0, 1) := dk_42 (dk_at dksX4_atom_3 16 rfl rfl)
theorem dX4_atom_105 : decode cX4_atom 105 = .ok (.iload_n 1, 1) := dk_27 (dk_at dksX4_atom_3 17 rfl rfl)
theorem dX4_atom_106 : decode cX4_atom 106 = .ok (.bipush 94, 2) := dk_16 94 (dk_at dksX4_atom_3 18 rfl rfl)
theorem dX4_atom_108 : decode cX4_atom 108 = .ok (.if_icmp .ne 7, 3) := dk_160 0 7 (dk_at dksX4_atom_3 20 rfl rfl)
theorem dX4_atom_111 : decode cX4_atom 111 = .ok (.iconst 3, 1) := dk_6 (dk_at dksX4_atom_3 23 rfl rfl)
theorem dX4_atom_112 : decode cX4_atom 112 = .ok (.goto 4, 3) := dk_167 0 4 (dk_at dksX4_atom_4 0 rfl rfl)
theorem dX4_atom_115 : decode cX4_atom 115 = .ok (.iconst 4, 1) := dk_7 (dk_at dksX4_atom_4 3 rfl rfl)
theorem dX4_atom_116 : decode cX4_atom 116 = .ok (.iconst 0, 1) := dk_3 (dk_at dksX4_atom_4 4 rfl rfl)
theorem dX4_atom_117 : decode cX4_atom 117 = .ok (.iconst 0, 1) := dk_3 (dk_at dksX4_atom_4 5 rfl rfl)
theorem dX4_atom_118 : decode cX4_atom 118 = .ok (.invokevirtual 87, 3) := dk_182 0 87 (dk_at dksX4_atom_4 6 rfl rfl)
theorem dX4_atom_121 : decode cX4_atom 121 = .ok (.istore_n 3, 1) := dk_62 (dk_at dksX4_atom_4 9 rfl rfl)
theorem dX4_atom_122 : decode cX4_atom 122 = .ok (.iconst 1, 1) := dk_4 (dk_at dksX4_atom_4 10 rfl rfl)
theorem dX4_atom_123 : decode cX4_atom 123 = .ok (.ireturn, 1) := dk_172 (dk_at dksX4_atom_4 11 rfl rfl)
theorem dX4_atom_124 : decode cX4_atom 124 = .ok (.aload_n 0, 1) := dk_42 (dk_at dksX4_atom_4 12 rfl rfl)
theorem dX4_atom_125 : decode cX4_atom 125 = .ok (.invokevirtual 187, 3) := dk_182 0 187 (dk_at dksX4_atom_4 13 rfl rfl)
theorem dX4_atom_128 : decode cX4_atom 128 = .ok (.ireturn, 1) := dk_172 (dk_at dksX4_atom_4 16 rfl rfl)
theorem dX4_atom_129 : decode cX4_atom 129 = .ok (.iload_n 1, 1) := dk_27 (dk_at dksX4_atom_4 17 rfl rfl)
theorem dX4_atom_130 : decode cX4_atom 130 = .ok (.bipush 32, 2) := dk_16 32 (dk_at dksX4_atom_4 18 rfl rfl)
theorem dX4_atom_132 : decode cX4_atom 132 = .ok (.if_icmp .lt 33, 3) := dk_161 0 33 (dk_at dksX4_atom_4 20 rfl rfl)
theorem dX4_atom_135 : decode cX4_atom 135 = .ok (.iload_n 1, 1) := dk_27 (dk_at dksX4_atom_4 23 rfl rfl)
theorem dX4_atom_136 : decode cX4_atom 136 = .ok (.bipush 126, 2) := dk_16 126 (dk_at dksX4_atom_5 0 rfl rfl)
theorem dX4_atom_138 : decode cX4_atom 138 = .ok (.if_icmp .gt 27, 3) := dk_163 0 27 (dk_at dksX4_atom_5 2 rfl rfl)
theorem dX4_atom_141 : decode cX4_atom 141 = .ok (.iload_n 1, 1) := dk_27 (dk_at dksX4_atom_5 5 rfl rfl)
theorem dX4_atom_142 : decode cX4_atom 142 = .ok (.bipush 42, 2) := dk_16 42 (dk_at dksX4_atom_5 6 rfl rfl)
theorem dX4_atom_144 : decode cX4_atom 144 = .ok (.if_icmp .eq 21, 3) := dk_159 0 21 (dk_at dksX4_atom_5 8 rfl rfl)
theorem dX4_atom_147 : decode cX4_atom 147 = .ok (.iload_n 1, 1) := dk_27 (dk_at dksX4_atom_5 11 rfl rfl)
theorem dX4_atom_148 : decode cX4_atom 148 = .ok (.bipush 43, 2) := dk_16 43 (dk_at dksX4_atom_5 12 rfl rfl)
theorem dX4_atom_150 : decode cX4_atom 150 = .ok (.if_icmp .eq 15, 3) := dk_159 0 15 (dk_at dksX4_atom_5 14 rfl rfl)
theorem dX4_atom_153 : decode cX4_atom 153 = .ok (.iload_n 1, 1) := dk_27 (dk_at dksX4_atom_5 17 rfl rfl)
theorem dX4_atom_154 : decode cX4_atom 154 = .ok (.bipush 63, 2) := dk_16 63 (dk_at dksX4_atom_5 18 rfl rfl)
theorem dX4_atom_156 : decode cX4_atom 156 = .ok (.if_icmp .eq 9, 3) := dk_159 0 9 (dk_at dksX4_atom_5 20 rfl rfl)
theorem dX4_atom_159 : decode cX4_atom 159 = .ok (.iload_n 1, 1) := dk_27 (dk_at dksX4_atom_5 23 rfl rfl)
theorem dX4_atom_160 : decode cX4_atom 160 = .ok (.bipush 123, 2) := dk_16 123 (dk_at dksX4_atom_6 0 rfl rfl)
theorem dX4_atom_162 : decode cX4_atom 162 = .ok (.if_icmp .ne 8, 3) := dk_160 0 8 (dk_at dksX4_atom_6 2 rfl rfl)
theorem dX4_atom_165 : decode cX4_atom 165 = .ok (.aload_n 0, 1) := dk_42 (dk_at dksX4_atom_6 5 rfl rfl)
theorem dX4_atom_166 : decode cX4_atom 166 = .ok (.invokevirtual 48, 3) := dk_182 0 48 (dk_at dksX4_atom_6 6 rfl rfl)
theorem dX4_atom_169 : decode cX4_atom 169 = .ok (.athrow, 1) := dk_191 (dk_at dksX4_atom_6 9 rfl rfl)
theorem dX4_atom_170 : decode cX4_atom 170 = .ok (.aload_n 0, 1) := dk_42 (dk_at dksX4_atom_6 10 rfl rfl)
theorem dX4_atom_171 : decode cX4_atom 171 = .ok (.dup, 1) := dk_89 (dk_at dksX4_atom_6 11 rfl rfl)
theorem dX4_atom_172 : decode cX4_atom 172 = .ok (.getfield 21, 3) := dk_180 0 21 (dk_at dksX4_atom_6 12 rfl rfl)
theorem dX4_atom_175 : decode cX4_atom 175 = .ok (.iconst 1, 1) := dk_4 (dk_at dksX4_atom_6 15 rfl rfl)
theorem dX4_atom_176 : decode cX4_atom 176 = .ok (.iadd, 1) := dk_96 (dk_at dksX4_atom_6 16 rfl rfl)
theorem dX4_atom_177 : decode cX4_atom 177 = .ok (.putfield 21, 3) := dk_181 0 21 (dk_at dksX4_atom_6 17 rfl rfl)
theorem dX4_atom_180 : decode cX4_atom 180 = .ok (.aload_n 0, 1) := dk_42 (dk_at dksX4_atom_6 20 rfl rfl)
theorem dX4_atom_181 : decode cX4_atom 181 = .ok (.iconst 0, 1) := dk_3 (dk_at dksX4_atom_6 21 rfl rfl)
theorem dX4_atom_182 : decode cX4_atom 182 = .ok (.iload_n 1, 1) := dk_27 (dk_at dksX4_atom_6 22 rfl rfl)
theorem dX4_atom_183 : decode cX4_atom 183 = .ok (.iconst 0, 1) := dk_3 (dk_at dksX4_atom_6 23 rfl rfl)
theorem dX4_atom_184 : decode cX4_atom 184 = .ok (.invokevirtual 87, 3) := dk_182 0 87 (dk_at dksX4_atom_7 0 rfl rfl)
theorem dX4_atom_187 : decode cX4_atom 187 = .ok (.istore 4, 2) := dk_54 4 (dk_at dksX4_atom_7 3 rfl rfl)
theorem dX4_atom_189 : decode cX4_atom 189 = .ok (.iconst 1, 1) := dk_4 (dk_at dksX4_atom_7 5 rfl rfl)
theorem dX4_atom_190 : decode cX4_atom 190 = .ok (.ireturn, 1) := dk_172 (dk_at dksX4_atom_7 6 rfl rfl)
abbrev cX4_group : ByteArray := prog_21_method_26_code
def yX4_group : MethodName := ⟨RX4, "group", "()I"⟩
def dkwX4_group_17 : List UInt8 := [21, 6, 42, 182, 0, 103, 79, 21, 7, 29, 16, 40, 160, 0, 7, 5, 167, 0, 4, 4, 184, 0, 106, 172]
abbrev dktX4_group_17 : List UInt8 := dkwX4_group_17 ++ []
def dkwX4_group_16 : List UInt8 := [180, 0, 37, 153, 0, 27, 42, 16, 13, 3, 3, 182, 0, 87, 54, 8, 42, 180, 0, 33, 180, 0, 96]
abbrev dktX4_group_16 : List UInt8 := dkwX4_group_16 ++ dktX4_group_17
def dkwX4_group_15 : List UInt8 := [5, 21, 5, 104, 4, 96, 3, 182, 0, 87, 54, 6, 167, 0, 40, 29, 16, 58, 159, 0, 34, 42]
abbrev dktX4_group_15 : List UInt8 := dkwX4_group_15 ++ dktX4_group_16
def dkwX4_group_14 : List UInt8 := [21, 4, 153, 0, 13, 42, 89, 180, 0, 71, 4, 100, 181, 0, 71, 29, 16, 40, 160, 0, 21, 42, 16, 9]
abbrev dktX4_group_14 : List UInt8 := dkwX4_group_14 ++ dktX4_group_15
def dkwX4_group_13 : List UInt8 := [182, 0, 48, 191, 42, 89, 180, 0, 21, 4, 96, 181, 0, 21, 42, 89, 180, 0, 68, 4, 100, 181, 0, 68]
abbrev dktX4_group_13 : List UInt8 := dkwX4_group_13 ++ dktX4_group_14
def dkwX4_group_12 : List UInt8 := [167, 0, 4, 3, 54, 6, 42, 182, 0, 44, 54, 7, 42, 182, 0, 93, 16, 41, 159, 0, 8, 42]
abbrev dktX4_group_12 : List UInt8 := dkwX4_group_12 ++ dktX4_group_13
def dkwX4_group_11 : List UInt8 := [16, 10, 3, 3, 182, 0, 87, 167, 0, 21, 29, 16, 33, 160, 0, 14, 42, 16, 11, 3, 3, 182, 0, 87]
abbrev dktX4_group_11 : List UInt8 := dkwX4_group_11 ++ dktX4_group_12
def dkwX4_group_10 : List UInt8 := [160, 0, 17, 42, 16, 9, 5, 21, 5, 104, 3, 182, 0, 87, 167, 0, 38, 29, 16, 61, 160, 0, 14, 42]
abbrev dktX4_group_10 : List UInt8 := dkwX4_group_10 ++ dktX4_group_11
def dkwX4_group_9 : List UInt8 := [181, 0, 64, 42, 180, 0, 64, 54, 5, 42, 89, 180, 0, 68, 4, 96, 181, 0, 68, 29, 16, 40]
abbrev dktX4_group_9 : List UInt8 := dkwX4_group_9 ++ dktX4_group_10
def dkwX4_group_8 : List UInt8 := [181, 0, 71, 42, 89, 180, 0, 74, 4, 96, 181, 0, 74, 28, 153, 0, 13, 42, 89, 180, 0, 64, 4, 96]
abbrev dktX4_group_8 : List UInt8 := dkwX4_group_8 ++ dktX4_group_9
def dkwX4_group_7 : List UInt8 := [158, 0, 12, 187, 0, 28, 89, 27, 183, 0, 30, 191, 21, 4, 153, 0, 23, 42, 89, 180, 0, 71, 4, 96]
abbrev dktX4_group_7 : List UInt8 := dkwX4_group_7 ++ dktX4_group_8
def dkwX4_group_6 : List UInt8 := [29, 16, 33, 160, 0, 7, 4, 167, 0, 4, 3, 54, 4, 21, 4, 153, 0, 19, 42, 180, 0, 71]
abbrev dktX4_group_6 : List UInt8 := dkwX4_group_6 ++ dktX4_group_7
def dkwX4_group_5 : List UInt8 := [159, 0, 8, 42, 182, 0, 48, 191, 42, 89, 180, 0, 21, 4, 96, 181, 0, 21, 29, 16, 61, 159, 0, 9]
abbrev dktX4_group_5 : List UInt8 := dkwX4_group_5 ++ dktX4_group_6
def dkwX4_group_4 : List UInt8 := [181, 0, 21, 42, 182, 0, 93, 62, 29, 16, 58, 159, 0, 20, 29, 16, 61, 159, 0, 14, 29, 16, 33]
abbrev dktX4_group_4 : List UInt8 := dkwX4_group_4 ++ dktX4_group_5
def dkwX4_group_3 : List UInt8 := [89, 180, 0, 21, 4, 96, 181, 0, 21, 16, 40, 62, 28, 154, 0, 51, 42, 89, 180, 0, 21, 4, 96]
abbrev dktX4_group_3 : List UInt8 := dkwX4_group_3 ++ dktX4_group_4
def dkwX4_group_2 : List UInt8 := [167, 0, 4, 3, 61, 28, 153, 0, 17, 42, 180, 0, 64, 16, 9, 160, 0, 8, 42, 182, 0, 48, 191, 42]
abbrev dktX4_group_2 : List UInt8 := dkwX4_group_2 ++ dktX4_group_3
def dkwX4_group_1 : List UInt8 := [96, 42, 180, 0, 13, 162, 0, 18, 42, 42, 180, 0, 21, 4, 96, 182, 0, 24, 16, 63, 159, 0, 7, 4]
abbrev dktX4_group_1 : List UInt8 := dkwX4_group_1 ++ dktX4_group_2
def dkwX4_group_0 : List UInt8 := [42, 180, 0, 21, 60, 42, 180, 0, 68, 16, 10, 160, 0, 8, 42, 182, 0, 48, 191, 42, 180, 0, 21, 4]
abbrev dktX4_group_0 : List UInt8 := dkwX4_group_0 ++ dktX4_group_1
theorem dksX4_group_0 : cX4_group.data.toList.drop 0 = dktX4_group_0 := by decide +kernel
theorem dksX4_group_1 : cX4_group.data.toList.drop 24 = dktX4_group_1 := dk_seg dksX4_group_0 24 rfl rfl
theorem dksX4_group_2 : cX4_group.data.toList.drop 48 = dktX4_group_2 := dk_seg dksX4_group_1 24 rfl rfl
theorem dksX4_group_3 : cX4_group.data.toList.drop 72 = dktX4_group_3 := dk_seg dksX4_group_2 24 rfl rfl
theorem dksX4_group_4 : cX4_group.data.toList.drop 95 = dktX4_group_4 := dk_seg dksX4_group_3 23 rfl rfl
theorem dksX4_group_5 : cX4_group.data.toList.drop 118 = dktX4_group_5 := dk_seg dksX4_group_4 23 rfl rfl
theorem dksX4_group_6 : cX4_group.data.toList.drop 142 = dktX4_group_6 := dk_seg dksX4_group_5 24 rfl rfl
theorem dksX4_group_7 : cX4_group.data.toList.drop 164 = dktX4_group_7 := dk_seg dksX4_group_6 22 rfl rfl
theorem dksX4_group_8 : cX4_group.data.toList.drop 188 = dktX4_group_8 := dk_seg dksX4_group_7 24 rfl rfl
theorem dksX4_group_9 : cX4_group.data.toList.drop 212 = dktX4_group_9 := dk_seg dksX4_group_8 24 rfl rfl
theorem dksX4_group_10 : cX4_group.data.toList.drop 234 = dktX4_group_10 := dk_seg dksX4_group_9 22 rfl rfl
theorem dksX4_group_11 : cX4_group.data.toList.drop 258 = dktX4_group_11 := dk_seg dksX4_group_10 24 rfl rfl
theorem dksX4_group_12 : cX4_group.data.toList.drop 282 = dktX4_group_12 := dk_seg dksX4_group_11 24 rfl rfl
theorem dksX4_group_13 : cX4_group.data.toList.drop 304 = dktX4_group_13 := dk_seg dksX4_group_12 22 rfl rfl
theorem dksX4_group_14 : cX4_group.data.toList.drop 328 = dktX4_group_14 := dk_seg dksX4_group_13 24 rfl rfl
theorem dksX4_group_15 : cX4_group.data.toList.drop 352 = dktX4_group_15 := dk_seg dksX4_group_14 24 rfl rfl
theorem dksX4_group_16 : cX4_group.data.toList.drop 374 = dktX4_group_16 := dk_seg dksX4_group_15 22 rfl rfl
theorem dksX4_group_17 : cX4_group.data.toList.drop 397 = dktX4_group_17 := dk_seg dksX4_group_16 23 rfl rfl
theorem dX4_group_0 : decode cX4_group 0 = .ok (.aload_n 0, 1) := dk_42 (dk_at dksX4_group_0 0 rfl rfl)
theorem dX4_group_1 : decode cX4_group 1 = .ok (.getfield 21, 3) := dk_180 0 21 (dk_at dksX4_group_0 1 rfl rfl)
theorem dX4_group_4 : decode cX4_group 4 = .ok (.istore_n 1, 1) := dk_60 (dk_at dksX4_group_0 4 rfl rfl)
theorem dX4_group_5 : decode cX4_group 5 = .ok (.aload_n 0, 1) := dk_42 (dk_at dksX4_group_0 5 rfl rfl)
theorem dX4_group_6 : decode cX4_group 6 = .ok (.getfield 68, 3) := dk_180 0 68 (dk_at dksX4_group_0 6 rfl rfl)
theorem dX4_group_9 : decode cX4_group 9 = .ok (.bipush 10, 2) := dk_16 10 (dk_at dksX4_group_0 9 rfl rfl)
theorem dX4_group_11 : decode cX4_group 11 = .ok (.if_icmp .ne 8, 3) := dk_160 0 8 (dk_at dksX4_group_0 11 rfl rfl)
theorem dX4_group_14 : decode cX4_group 14 = .ok (.aload_n 0, 1) := dk_42 (dk_at dksX4_group_0 14 rfl rfl)
theorem dX4_group_15 : decode cX4_group 15 = .ok (.invokevirtual 48, 3) := dk_182 0 48 (dk_at dksX4_group_0 15 rfl rfl)
theorem dX4_group_18 : decode cX4_group 18 = .ok (.athrow, 1) := dk_191 (dk_at dksX4_group_0 18 rfl rfl)
theorem dX4_group_19 : decode cX4_group 19 = .ok (.aload_n 0, 1) := dk_42 (dk_at dksX4_group_0 19 rfl rfl)
theorem dX4_group_20 : decode cX4_group 20 = .ok (.getfield 21, 3) := dk_180 0 21 (dk_at dksX4_group_0 20 rfl rfl)
theorem dX4_group_23 : decode cX4_group 23 = .ok (.iconst 1, 1) := dk_4 (dk_at dksX4_group_0 23 rfl rfl)
theorem dX4_group_24 : decode cX4_group 24 = .ok (.iadd, 1) := dk_96 (dk_at dksX4_group_1 0 rfl rfl)
theorem dX4_group_25 : decode cX4_group 25 = .ok (.aload_n 0, 1) := dk_42 (dk_at dksX4_group_1 1 rfl rfl)
theorem dX4_group_26 : decode cX4_group 26 = .ok (.getfield 13, 3) := dk_180 0 13 (dk_at dksX4_group_1 2 rfl rfl)
theorem dX4_group_29 : decode cX4_group 29 = .ok (.if_icmp .ge 18, 3) := dk_162 0 18 (dk_at dksX4_group_1 5 rfl rfl)
theorem dX4_group_32 : decode cX4_group 32 = .ok (.aload_n 0, 1) := dk_42 (dk_at dksX4_group_1 8 rfl rfl)
theorem dX4_group_33 : decode cX4_group 33 = .ok (.aload_n 0, 1) := dk_42 (dk_at dksX4_group_1 9 rfl rfl)
theorem dX4_group_34 : decode cX4_group 34 = .ok (.getfield 21, 3) := dk_180 0 21 (dk_at dksX4_group_1 10 rfl rfl)
theorem dX4_group_37 : decode cX4_group 37 = .ok (.iconst 1, 1) := dk_4 (dk_at dksX4_group_1 13 rfl rfl)
theorem dX4_group_38 : decode cX4_group 38 = .ok (.iadd, 1) := dk_96 (dk_at dksX4_group_1 14 rfl rfl)
theorem dX4_group_39 : decode cX4_group 39 = .ok (.invokevirtual 24, 3) := dk_182 0 24 (dk_at dksX4_group_1 15 rfl rfl)
theorem dX4_group_42 : decode cX4_group 42 = .ok (.bipush 63, 2) := dk_16 63 (dk_at dksX4_group_1 18 rfl rfl)
theorem dX4_group_44 : decode cX4_group 44 = .ok (.if_icmp .eq 7, 3) := dk_159 0 7 (dk_at dksX4_group_1 20 rfl rfl)
theorem dX4_group_47 : decode cX4_group 47 = .ok (.iconst 1, 1) := dk_4 (dk_at dksX4_group_1 23 rfl rfl)
theorem dX4_group_48 : decode cX4_group 48 = .ok (.goto 4, 3) := dk_167 0 4 (dk_at dksX4_group_2 0 rfl rfl)
theorem dX4_group_51 : decode cX4_group 51 = .ok (.iconst 0, 1) := dk_3 (dk_at dksX4_group_2 3 rfl rfl)
theorem dX4_group_52 : decode cX4_group 52 = .ok (.istore_n 2, 1) := dk_61 (dk_at dksX4_group_2 4 rfl rfl)
theorem dX4_group_53 : decode cX4_group 53 = .ok (.iload_n 2, 1) := dk_28 (dk_at dksX4_group_2 5 rfl rfl)
theorem dX4_group_54 : decode cX4_group 54 = .ok (.ifCond .eq 17, 3) := dk_153 0 17 (dk_at dksX4_group_2 6 rfl rfl)
theorem dX4_group_57 : decode cX4_group 57 = .ok (.aload_n 0, 1) := dk_42 (dk_at dksX4_group_2 9 rfl rfl)
theorem dX4_group_58 : decode cX4_group 58 = .ok (.getfield 64, 3) := dk_180 0 64 (dk_at dksX4_group_2 10 rfl rfl)
theorem dX4_group_61 : decode cX4_group 61 = .ok (.bipush 9, 2) := dk_16 9 (dk_at dksX4_group_2 13 rfl rfl)
theorem dX4_group_63 : decode cX4_group 63 = .ok (.if_icmp .ne 8, 3) := dk_160 0 8 (dk_at dksX4_group_2 15 rfl rfl)
theorem dX4_group_66 : decode cX4_group 66 = .ok (.aload_n 0, 1) := dk_42 (dk_at dksX4_group_2 18 rfl rfl)
theorem dX4_group_67 : decode cX4_group 67 = .ok (.invokevirtual 48, 3) := dk_182 0 48 (dk_at dksX4_group_2 19 rfl rfl)
theorem dX4_group_70 : decode cX4_group 70 = .ok (.athrow, 1) := dk_191 (dk_at dksX4_group_2 22 rfl rfl)
theorem dX4_group_71 : decode cX4_group 71 = .ok (.aload_n 0, 1) := dk_42 (dk_at dksX4_group_2 23 rfl rfl)
theorem dX4_group_72 : decode cX4_group 72 = .ok (.dup, 1) := dk_89 (dk_at dksX4_group_3 0 rfl rfl)
theorem dX4_group_73 : decode cX4_group 73 = .ok (.getfield 21, 3) := dk_180 0 21 (dk_at dksX4_group_3 1 rfl rfl)
theorem dX4_group_76 : decode cX4_group 76 = .ok (.iconst 1, 1) := dk_4 (dk_at dksX4_group_3 4 rfl rfl)
theorem dX4_group_77 : decode cX4_group 77 = .ok (.iadd, 1) := dk_96 (dk_at dksX4_group_3 5 rfl rfl)
theorem dX4_group_78 : decode cX4_group 78 = .ok (.putfield 21, 3) := dk_181 0 21 (dk_at dksX4_group_3 6 rfl rfl)
theorem dX4_group_81 : decode cX4_group 81 = .ok (.bipush 40, 2) := dk_16 40 (dk_at dksX4_group_3 9 rfl rfl)
theorem dX4_group_83 : decode cX4_group 83 = .ok (.istore_n 3, 1) := dk_62 (dk_at dksX4_group_3 11 rfl rfl)
theorem dX4_group_84 : decode cX4_group 84 = .ok (.iload_n 2, 1) := dk_28 (dk_at dksX4_group_3 12 rfl rfl)
theorem dX4_group_85 : decode cX4_group 85 = .ok (.ifCond .ne 51, 3) := dk_154 0 51 (dk_at dksX4_group_3 13 rfl rfl)
theorem dX4_group_88 : decode cX4_group 88 = .ok (.aload_n 0, 1) := dk_42 (dk_at dksX4_group_3 16 rfl rfl)
theorem dX4_group_89 : decode cX4_group 89 = .ok (.dup, 1) := dk_89 (dk_at dksX4_group_3 17 rfl rfl)
theorem dX4_group_90 : decode cX4_group 90 = .ok (.getfield 21, 3) := dk_180 0 21 (dk_at dksX4_group_3 18 rfl rfl)
theorem dX4_group_93 : decode cX4_group 93 = .ok (.iconst 1, 1) := dk_4 (dk_at dksX4_group_3 21 rfl rfl)
theorem dX4_group_94 : decode cX4_group 94 = .ok (.iadd, 1) := dk_96 (dk_at dksX4_group_3 22 rfl rfl)
theorem dX4_group_95 : decode cX4_group 95 = .ok (.putfield 21, 3) := dk_181 0 21 (dk_at dksX4_group_4 0 rfl rfl)
theorem dX4_group_98 : decode cX4_group 98 = .ok (.aload_n 0, 1) := dk_42 (dk_at dksX4_group_4 3 rfl rfl)
theorem dX4_group_99 : decode cX4_group 99 = .ok (.invokevirtual 93, 3) := dk_182 0 93 (dk_at dksX4_group_4 4 rfl rfl)
theorem dX4_group_102 : decode cX4_group 102 = .ok (.istore_n 3, 1) := dk_62 (dk_at dksX4_group_4 7 rfl rfl)
theorem dX4_group_103 : decode cX4_group 103 = .ok (.iload_n 3, 1) := dk_29 (dk_at dksX4_group_4 8 rfl rfl)
theorem dX4_group_104 : decode cX4_group 104 = .ok (.bipush 58, 2) := dk_16 58 (dk_at dksX4_group_4 9 rfl rfl)
theorem dX4_group_106 : decode cX4_group 106 = .ok (.if_icmp .eq 20, 3) := dk_159 0 20 (dk_at dksX4_group_4 11 rfl rfl)
theorem dX4_group_109 : decode cX4_group 109 = .ok (.iload_n 3, 1) := dk_29 (dk_at dksX4_group_4 14 rfl rfl)
theorem dX4_group_110 : decode cX4_group 110 = .ok (.bipush 61, 2) := dk_16 61 (dk_at dksX4_group_4 15 rfl rfl)
theorem dX4_group_112 : decode cX4_group 112 = .ok (.if_icmp .eq 14, 3) := dk_159 0 14 (dk_at dksX4_group_4 17 rfl rfl)
theorem dX4_group_115 : decode cX4_group 115 = .ok (.iload_n 3, 1) := dk_29 (dk_at dksX4_group_4 20 rfl rfl)
theorem dX4_group_116 : decode cX4_group 116 = .ok (.bipush 33, 2) := dk_16 33 (dk_at dksX4_group_4 21 rfl rfl)
theorem dX4_group_118 : decode cX4_group 118 = .ok (.if_icmp .eq 8, 3) := dk_159 0 8 (dk_at dksX4_group_5 0 rfl rfl)
theorem dX4_group_121 : decode cX4_group 121 = .ok (.aload_n 0, 1) := dk_42 (dk_at dksX4_group_5 3 rfl rfl)
theorem dX4_group_122 : decode cX4_group 122 = .ok (.invokevirtual 48, 3) := dk_182 0 48 (dk_at dksX4_group_5 4 rfl rfl)
theorem dX4_group_125 : decode cX4_group 125 = .ok (.athrow, 1) := dk_191 (dk_at dksX4_group_5 7 rfl rfl)
theorem dX4_group_126 : decode cX4_group 126 = .ok (.aload_n 0, 1) := dk_42 (dk_at dksX4_group_5 8 rfl rfl)
theorem dX4_group_127 : decode cX4_group 127 = .ok (.dup, 1) := dk_89 (dk_at dksX4_group_5 9 rfl rfl)
theorem dX4_group_128 : decode cX4_group 128 = .ok (.getfield 21, 3) := dk_180 0 21 (dk_at dksX4_group_5 10 rfl rfl)
theorem dX4_group_131 : decode cX4_group 131 = .ok (.iconst 1, 1) := dk_4 (dk_at dksX4_group_5 13 rfl rfl)
theorem dX4_group_132 : decode cX4_group 132 = .ok (.iadd, 1) := dk_96 (dk_at dksX4_group_5 14 rfl rfl)
theorem dX4_group_133 : decode cX4_group 133 = .ok (.putfield 21, 3) := dk_181 0 21 (dk_at dksX4_group_5 15 rfl rfl)
theorem dX4_group_136 : decode cX4_group 136 = .ok (.iload_n 3, 1) := dk_29 (dk_at dksX4_group_5 18 rfl rfl)
theorem dX4_group_137 : decode cX4_group 137 = .ok (.bipush 61, 2) := dk_16 61 (dk_at dksX4_group_5 19 rfl rfl)
theorem dX4_group_139 : decode cX4_group 139 = .ok (.if_icmp .eq 9, 3) := dk_159 0 9 (dk_at dksX4_group_5 21 rfl rfl)
theorem dX4_group_142 : decode cX4_group 142 = .ok (.iload_n 3, 1) := dk_29 (dk_at dksX4_group_6 0 rfl rfl)
theorem dX4_group_143 : decode cX4_group 143 = .ok (.bipush 33, 2) := dk_16 33 (dk_at dksX4_group_6 1 rfl rfl)
theorem dX4_group_145 : decode cX4_group 145 = .ok (.if_icmp .ne 7, 3) := dk_160 0 7 (dk_at dksX4_group_6 3 rfl rfl)
theorem dX4_group_148 : decode cX4_group 148 = .ok (.iconst 1, 1) := dk_4 (dk_at dksX4_group_6 6 rfl rfl)
theorem dX4_group_149 : decode cX4_group 149 = .ok (.goto 4, 3) := dk_167 0 4 (dk_at dksX4_group_6 7 rfl rfl)
theorem dX4_group_152 : decode cX4_group 152 = .ok (.iconst 0, 1) := dk_3 (dk_at dksX4_group_6 10 rfl rfl)
theorem dX4_group_153 : decode cX4_group 153 = .ok (.istore 4, 2) := dk_54 4 (dk_at dksX4_group_6 11 rfl rfl)
theorem dX4_group_155 : decode cX4_group 155 = .ok (.iload 4, 2) := dk_21 4 (dk_at dksX4_group_6 13 rfl rfl)
theorem dX4_group_157 : decode cX4_group 157 = .ok (.ifCond .eq 19, 3) := dk_153 0 19 (dk_at dksX4_group_6 15 rfl rfl)
theorem dX4_group_160 : decode cX4_group 160 = .ok (.aload_n 0, 1) := dk_42 (dk_at dksX4_group_6 18 rfl rfl)
theorem dX4_group_161 : decode cX4_group 161 = .ok (.getfield 71, 3) := dk_180 0 71 (dk_at dksX4_group_6 19 rfl rfl)
theorem dX4_group_164 : decode cX4_group 164 = .ok (.ifCond .le 12, 3) := dk_158 0 12 (dk_at dksX4_group_7 0 rfl rfl)
theorem dX4_group_167 : decode cX4_group 167 = .ok (.new 28, 3) := dk_187 0 28 (dk_at dksX4_group_7 3 rfl rfl)
theorem dX4_group_170 : decode cX4_group 170 = .ok (.dup, 1) := dk_89 (dk_at dksX4_group_7 6 rfl rfl)
theorem dX4_group_171 : decode cX4_group 171 = .ok (.iload_n 1, 1) := dk_27 (dk_at dksX4_group_7 7 rfl rfl)
theorem dX4_group_172 : decode cX4_group 172 = .ok (.invokespecial 30, 3) := dk_183 0 30 (dk_at dksX4_group_7 8 rfl rfl)
theorem dX4_group_175 : decode cX4_group 175 = .ok (.athrow, 1) := dk_191 (dk_at dksX4_group_7 11 rfl rfl)
theorem dX4_group_176 : decode cX4_group 176 = .ok (.iload 4, 2) := dk_21 4 (dk_at dksX4_group_7 12 rfl rfl)
theorem dX4_group_178 : decode cX4_group 178 = .ok (.ifCond .eq 23, 3) := dk_153 0 23 (dk_at dksX4_group_7 14 rfl rfl)
theorem dX4_group_181 : decode cX4_group 181 = .ok (.aload_n 0, 1) := dk_42 (dk_at dksX4_group_7 17 rfl rfl)
theorem dX4_group_182 : decode cX4_group 182 = .ok (.dup, 1) := dk_89 (dk_at dksX4_group_7 18 rfl rfl)
theorem dX4_group_183 : decode cX4_group 183 = .ok (.getfield 71, 3) := dk_180 0 71 (dk_at dksX4_group_7 19 rfl rfl)
theorem dX4_group_186 : decode cX4_group 186 = .ok (.iconst 1, 1) := dk_4 (dk_at dksX4_group_7 22 rfl rfl)
theorem dX4_group_187 : decode cX4_group 187 = .ok (.iadd, 1) := dk_96 (dk_at dksX4_group_7 23 rfl rfl)
theorem dX4_group_188 : decode cX4_group 188 = .ok (.putfield 71, 3) := dk_181 0 71 (dk_at dksX4_group_8 0 rfl rfl)
theorem dX4_group_191 : decode cX4_group 191 = .ok (.aload_n 0, 1) := dk_42 (dk_at dksX4_group_8 3 rfl rfl)
theorem dX4_group_192 : decode cX4_group 192 = .ok (.dup, 1) := dk_89 (dk_at dksX4_group_8 4 rfl rfl)
theorem dX4_group_193 : decode cX4_group 193 = .ok (.getfield 74, 3) := dk_180 0 74 (dk_at dksX4_group_8 5 rfl rfl)
theorem dX4_group_196 : decode cX4_group 196 = .ok (.iconst 1, 1) := dk_4 (dk_at dksX4_group_8 8 rfl rfl)
theorem dX4_group_197 : decode cX4_group 197 = .ok (.iadd, 1) := dk_96 (dk_at dksX4_group_8 9 rfl rfl)
theorem dX4_group_198 : decode cX4_group 198 = .ok (.putfield 74, 3) := dk_181 0 74 (dk_at dksX4_group_8 10 rfl rfl)
theorem dX4_group_201 : decode cX4_group 201 = .ok (.iload_n 2, 1) := dk_28 (dk_at dksX4_group_8 13 rfl rfl)
theorem dX4_group_202 : decode cX4_group 202 = .ok (.ifCond .eq 13, 3) := dk_153 0 13 (dk_at dksX4_group_8 14 rfl rfl)
theorem dX4_group_205 : decode cX4_group 205 = .ok (.aload_n 0, 1) := dk_42 (dk_at dksX4_group_8 17 rfl rfl)
theorem dX4_group_206 : decode cX4_group 206 = .ok (.dup, 1) := dk_89 (dk_at dksX4_group_8 18 rfl rfl)
theorem dX4_group_207 : decode cX4_group 207 = .ok (.getfield 64, 3) := dk_180 0 64 (dk_at dksX4_group_8 19 rfl rfl)
theorem dX4_group_210 : decode cX4_group 210 = .ok (.iconst 1, 1) := dk_4 (dk_at dksX4_group_8 22 rfl rfl)
theorem dX4_group_211 : decode cX4_group 211 = .ok (.iadd, 1) := dk_96 (dk_at dksX4_group_8 23 rfl rfl)
theorem dX4_group_212 : decode cX4_group 212 = .ok (.putfield 64, 3) := dk_181 0 64 (dk_at dksX4_group_9 0 rfl rfl)
theorem dX4_group_215 : decode cX4_group 215 = .ok (.aload_n 0, 1) := dk_42 (dk_at dksX4_group_9 3 rfl rfl)
theorem dX4_group_216 : decode cX4_group 216 = .ok (.getfield 64, 3) := dk_180 0 64 (dk_at dksX4_group_9 4 rfl rfl)
theorem dX4_group_219 : decode cX4_group 219 = .ok (.istore 5, 2) := dk_54 5 (dk_at dksX4_group_9 7 rfl rfl)
theorem dX4_group_221 : decode cX4_group 221 = .ok (.aload_n 0, 1) := dk_42 (dk_at dksX4_group_9 9 rfl rfl)
theorem dX4_group_222 : decode cX4_group 222 = .ok (.dup, 1) := dk_89 (dk_at dksX4_group_9 10 rfl rfl)
theorem dX4_group_223 : decode cX4_group 223 = .ok (.getfield 68, 3) := dk_180 0 68 (dk_at dksX4_group_9 11 rfl rfl)
theorem dX4_group_226 : decode cX4_group 226 = .ok (.iconst 1, 1) := dk_4 (dk_at dksX4_group_9 14 rfl rfl)
theorem dX4_group_227 : decode cX4_group 227 = .ok (.iadd, 1) := dk_96 (dk_at dksX4_group_9 15 rfl rfl)
theorem dX4_group_228 : decode cX4_group 228 = .ok (.putfield 68, 3) := dk_181 0 68 (dk_at dksX4_group_9 16 rfl rfl)
theorem dX4_group_231 : decode cX4_group 231 = .ok (.iload_n 3, 1) := dk_29 (dk_at dksX4_group_9 19 rfl rfl)
theorem dX4_group_232 : decode cX4_group 232 = .ok (.bipush 40, 2) := dk_16 40 (dk_at dksX4_group_9 20 rfl rfl)
theorem dX4_group_234 : decode cX4_group 234 = .ok (.if_icmp .ne 17, 3) := dk_160 0 17 (dk_at dksX4_group_10 0 rfl rfl)
theorem dX4_group_237 : decode cX4_group 237 = .ok (.aload_n 0, 1) := dk_42 (dk_at dksX4_group_10 3 rfl rfl)
theorem dX4_group_238 : decode cX4_group 238 = .ok (.bipush 9, 2) := dk_16 9 (dk_at dksX4_group_10 4 rfl rfl)
theorem dX4_group_240 : decode cX4_group 240 = .ok (.iconst 2, 1) := dk_5 (dk_at dksX4_group_10 6 rfl rfl)
theorem dX4_group_241 : decode cX4_group 241 = .ok (.iload 5, 2) := dk_21 5 (dk_at dksX4_group_10 7 rfl rfl)
theorem dX4_group_243 : decode cX4_group 243 = .ok (.imul, 1) := dk_104 (dk_at dksX4_group_10 9 rfl rfl)
theorem dX4_group_244 : decode cX4_group 244 = .ok (.iconst 0, 1) := dk_3 (dk_at dksX4_group_10 10 rfl rfl)
theorem dX4_group_245 : decode cX4_group 245 = .ok (.invokevirtual 87, 3) := dk_182 0 87 (dk_at dksX4_group_10 11 rfl rfl)
theorem dX4_group_248 : decode cX4_group 248 = .ok (.goto 38, 3) := dk_167 0 38 (dk_at dksX4_group_10 14 rfl rfl)
theorem dX4_group_251 : decode cX4_group 251 = .ok (.iload_n 3, 1) := dk_29 (dk_at dksX4_group_10 17 rfl rfl)
theorem dX4_group_252 : decode cX4_group 252 = .ok (.bipush 61, 2) := dk_16 61 (dk_at dksX4_group_10 18 rfl rfl)
theorem dX4_group_254 : decode cX4_group 254 = .ok (.if_icmp .ne 14, 3) := dk_160 0 14 (dk_at dksX4_group_10 20 rfl rfl)
theorem dX4_group_257 : decode cX4_group 257 = .ok (.aload_n 0, 1) := dk_42 (dk_at dksX4_group_10 23 rfl rfl)
theorem dX4_group_258 : decode cX4_group 258 = .ok (.bipush 10, 2) := dk_16 10 (dk_at dksX4_group_11 0 rfl rfl)
theorem dX4_group_260 : decode cX4_group 260 = .ok (.iconst 0, 1) := dk_3 (dk_at dksX4_group_11 2 rfl rfl)
theorem dX4_group_261 : decode cX4_group 261 = .ok (.iconst 0, 1) := dk_3 (dk_at dksX4_group_11 3 rfl rfl)
theorem dX4_group_262 : decode cX4_group 262 = .ok (.invokevirtual 87, 3) := dk_182 0 87 (dk_at dksX4_group_11 4 rfl rfl)
theorem dX4_group_265 : decode cX4_group 265 = .ok (.goto 21, 3) := dk_167 0 21 (dk_at dksX4_group_11 7 rfl rfl)
theorem dX4_group_268 : decode cX4_group 268 = .ok (.iload_n 3, 1) := dk_29 (dk_at dksX4_group_11 10 rfl rfl)
theorem dX4_group_269 : decode cX4_group 269 = .ok (.bipush 33, 2) := dk_16 33 (dk_at dksX4_group_11 11 rfl rfl)
theorem dX4_group_271 : decode cX4_group 271 = .ok (.if_icmp .ne 14, 3) := dk_160 0 14 (dk_at dksX4_group_11 13 rfl rfl)
theorem dX4_group_274 : decode cX4_group 274 = .ok (.aload_n 0, 1) := dk_42 (dk_at dksX4_group_11 16 rfl rfl)
theorem dX4_group_275 : decode cX4_group 275 = .ok (.bipush 11, 2) := dk_16 11 (dk_at dksX4_group_11 17 rfl rfl)
theorem dX4_group_277 : decode cX4_group 277 = .ok (.iconst 0, 1) := dk_3 (dk_at dksX4_group_11 19 rfl rfl)
theorem dX4_group_278 : decode cX4_group 278 = .ok (.iconst 0, 1) := dk_3 (dk_at dksX4_group_11 20 rfl rfl)
theorem dX4_group_279 : decode cX4_group 279 = .ok (.invokevirtual 87, 3) := dk_182 0 87 (dk_at dksX4_group_11 21 rfl rfl)
theorem dX4_group_282 : decode cX4_group 282 = .ok (.goto 4, 3) := dk_167 0 4 (dk_at dksX4_group_12 0 rfl rfl)
theorem dX4_group_285 : decode cX4_group 285 = .ok (.iconst 0, 1) := dk_3 (dk_at dksX4_group_12 3 rfl rfl)
theorem dX4_group_286 : decode cX4_group 286 = .ok (.istore 6, 2) := dk_54 6 (dk_at dksX4_group_12 4 rfl rfl)
theorem dX4_group_288 : decode cX4_group 288 = .ok (.aload_n 0, 1) := dk_42 (dk_at dksX4_group_12 6 rfl rfl)
theorem dX4_group_289 : decode cX4_group 289 = .ok (.invokevirtual 44, 3) := dk_182 0 44 (dk_at dksX4_group_12 7 rfl rfl)
theorem dX4_group_292 : decode cX4_group 292 = .ok (.istore 7, 2) := dk_54 7 (dk_at dksX4_group_12 10 rfl rfl)
theorem dX4_group_294 : decode cX4_group 294 = .ok (.aload_n 0, 1) := dk_42 (dk_at dksX4_group_12 12 rfl rfl)
theorem dX4_group_295 : decode cX4_group 295 = .ok (.invokevirtual 93, 3) := dk_182 0 93 (dk_at dksX4_group_12 13 rfl rfl)
theorem dX4_group_298 : decode cX4_group 298 = .ok (.bipush 41, 2) := dk_16 41 (dk_at dksX4_group_12 16 rfl rfl)
theorem dX4_group_300 : decode cX4_group 300 = .ok (.if_icmp .eq 8, 3) := dk_159 0 8 (dk_at dksX4_group_12 18 rfl rfl)
theorem dX4_group_303 : decode cX4_group 303 = .ok (.aload_n 0, 1) := dk_42 (dk_at dksX4_group_12 21 rfl rfl)
theorem dX4_group_304 : decode cX4_group 304 = .ok (.invokevirtual 48, 3) := dk_182 0 48 (dk_at dksX4_group_13 0 rfl rfl)
theorem dX4_group_307 : decode cX4_group 307 = .ok (.athrow, 1) := dk_191 (dk_at dksX4_group_13 3 rfl rfl)
theorem dX4_group_308 : decode cX4_group 308 = .ok (.aload_n 0, 1) := dk_42 (dk_at dksX4_group_13 4 rfl rfl)
theorem dX4_group_309 : decode cX4_group 309 = .ok (.dup, 1) := dk_89 (dk_at dksX4_group_13 5 rfl rfl)
theorem dX4_group_310 : decode cX4_group 310 = .ok (.getfield 21, 3) := dk_180 0 21 (dk_at dksX4_group_13 6 rfl rfl)
theorem dX4_group_313 : decode cX4_group 313 = .ok (.iconst 1, 1) := dk_4 (dk_at dksX4_group_13 9 rfl rfl)
theorem dX4_group_314 : decode cX4_group 314 = .ok (.iadd, 1) := dk_96 (dk_at dksX4_group_13 10 rfl rfl)
theorem dX4_group_315 : decode cX4_group 315 = .ok (.putfield 21, 3) := dk_181 0 21 (dk_at dksX4_group_13 11 rfl rfl)
theorem dX4_group_318 : decode cX4_group 318 = .ok (.aload_n 0, 1) := dk_42 (dk_at dksX4_group_13 14 rfl rfl)
theorem dX4_group_319 : decode cX4_group 319 = .ok (.dup, 1) := dk_89 (dk_at dksX4_group_13 15 rfl rfl)
theorem dX4_group_320 : decode cX4_group 320 = .ok (.getfield 68, 3) := dk_180 0 68 (dk_at dksX4_group_13 16 rfl rfl)
theorem dX4_group_323 : decode cX4_group 323 = .ok (.iconst 1, 1) := dk_4 (dk_at dksX4_group_13 19 rfl rfl)
theorem dX4_group_324 : decode cX4_group 324 = .ok (.isub, 1) := dk_100 (dk_at dksX4_group_13 20 rfl rfl)
theorem dX4_group_325 : decode cX4_group 325 = .ok (.putfield 68, 3) := dk_181 0 68 (dk_at dksX4_group_13 21 rfl rfl)
theorem dX4_group_328 : decode cX4_group 328 = .ok (.iload 4, 2) := dk_21 4 (dk_at dksX4_group_14 0 rfl rfl)
theorem dX4_group_330 : decode cX4_group 330 = .ok (.ifCond .eq 13, 3) := dk_153 0 13 (dk_at dksX4_group_14 2 rfl rfl)
theorem dX4_group_333 : decode cX4_group 333 = .ok (.aload_n 0, 1) := dk_42 (dk_at dksX4_group_14 5 rfl rfl)
theorem dX4_group_334 : decode cX4_group 334 = .ok (.dup, 1) := dk_89 (dk_at dksX4_group_14 6 rfl rfl)
theorem dX4_group_335 : decode cX4_group 335 = .ok (.getfield 71, 3) := dk_180 0 71 (dk_at dksX4_group_14 7 rfl rfl)
theorem dX4_group_338 : decode cX4_group 338 = .ok (.iconst 1, 1) := dk_4 (dk_at dksX4_group_14 10 rfl rfl)
theorem dX4_group_339 : decode cX4_group 339 = .ok (.isub, 1) := dk_100 (dk_at dksX4_group_14 11 rfl rfl)
theorem dX4_group_340 : decode cX4_group 340 = .ok (.putfield 71, 3) := dk_181 0 71 (dk_at dksX4_group_14 12 rfl rfl)
theorem dX4_group_343 : decode cX4_group 343 = .ok (.iload_n 3, 1) := dk_29 (dk_at dksX4_group_14 15 rfl rfl)
theorem dX4_group_344 : decode cX4_group 344 = .ok (.bipush 40, 2) := dk_16 40 (dk_at dksX4_group_14 16 rfl rfl)
theorem dX4_group_346 : decode cX4_group 346 = .ok (.if_icmp .ne 21, 3) := dk_160 0 21 (dk_at dksX4_group_14 18 rfl rfl)
theorem dX4_group_349 : decode cX4_group 349 = .ok (.aload_n 0, 1) := dk_42 (dk_at dksX4_group_14 21 rfl rfl)
theorem dX4_group_350 : decode cX4_group 350 = .ok (.bipush 9, 2) := dk_16 9 (dk_at dksX4_group_14 22 rfl rfl)
theorem dX4_group_352 : decode cX4_group 352 = .ok (.iconst 2, 1) := dk_5 (dk_at dksX4_group_15 0 rfl rfl)
theorem dX4_group_353 : decode cX4_group 353 = .ok (.iload 5, 2) := dk_21 5 (dk_at dksX4_group_15 1 rfl rfl)
theorem dX4_group_355 : decode cX4_group 355 = .ok (.imul, 1) := dk_104 (dk_at dksX4_group_15 3 rfl rfl)
theorem dX4_group_356 : decode cX4_group 356 = .ok (.iconst 1, 1) := dk_4 (dk_at dksX4_group_15 4 rfl rfl)
theorem dX4_group_357 : decode cX4_group 357 = .ok (.iadd, 1) := dk_96 (dk_at dksX4_group_15 5 rfl rfl)
theorem dX4_group_358 : decode cX4_group 358 = .ok (.iconst 0, 1) := dk_3 (dk_at dksX4_group_15 6 rfl rfl)
theorem dX4_group_359 : decode cX4_group 359 = .ok (.invokevirtual 87, 3) := dk_182 0 87 (dk_at dksX4_group_15 7 rfl rfl)
theorem dX4_group_362 : decode cX4_group 362 = .ok (.istore 6, 2) := dk_54 6 (dk_at dksX4_group_15 10 rfl rfl)
theorem dX4_group_364 : decode cX4_group 364 = .ok (.goto 40, 3) := dk_167 0 40 (dk_at dksX4_group_15 12 rfl rfl)
theorem dX4_group_367 : decode cX4_group 367 = .ok (.iload_n 3, 1) := dk_29 (dk_at dksX4_group_15 15 rfl rfl)
theorem dX4_group_368 : decode cX4_group 368 = .ok (.bipush 58, 2) := dk_16 58 (dk_at dksX4_group_15 16 rfl rfl)
theorem dX4_group_370 : decode cX4_group 370 = .ok (.if_icmp .eq 34, 3) := dk_159 0 34 (dk_at dksX4_group_15 18 rfl rfl)
theorem dX4_group_373 : decode cX4_group 373 = .ok (.aload_n 0, 1) := dk_42 (dk_at dksX4_group_15 21 rfl rfl)
theorem dX4_group_374 : decode cX4_group 374 = .ok (.getfield 37, 3) := dk_180 0 37 (dk_at dksX4_group_16 0 rfl rfl)
theorem dX4_group_377 : decode cX4_group 377 = .ok (.ifCond .eq 27, 3) := dk_153 0 27 (dk_at dksX4_group_16 3 rfl rfl)
theorem dX4_group_380 : decode cX4_group 380 = .ok (.aload_n 0, 1) := dk_42 (dk_at dksX4_group_16 6 rfl rfl)
theorem dX4_group_381 : decode cX4_group 381 = .ok (.bipush 13, 2) := dk_16 13 (dk_at dksX4_group_16 7 rfl rfl)
theorem dX4_group_383 : decode cX4_group 383 = .ok (.iconst 0, 1) := dk_3 (dk_at dksX4_group_16 9 rfl rfl)
theorem dX4_group_384 : decode cX4_group 384 = .ok (.iconst 0, 1) := dk_3 (dk_at dksX4_group_16 10 rfl rfl)
theorem dX4_group_385 : decode cX4_group 385 = .ok (.invokevirtual 87, 3) := dk_182 0 87 (dk_at dksX4_group_16 11 rfl rfl)
theorem dX4_group_388 : decode cX4_group 388 = .ok (.istore 8, 2) := dk_54 8 (dk_at dksX4_group_16 14 rfl rfl)
theorem dX4_group_390 : decode cX4_group 390 = .ok (.aload_n 0, 1) := dk_42 (dk_at dksX4_group_16 16 rfl rfl)
theorem dX4_group_391 : decode cX4_group 391 = .ok (.getfield 33, 3) := dk_180 0 33 (dk_at dksX4_group_16 17 rfl rfl)
theorem dX4_group_394 : decode cX4_group 394 = .ok (.getfield 96, 3) := dk_180 0 96 (dk_at dksX4_group_16 20 rfl rfl)
theorem dX4_group_397 : decode cX4_group 397 = .ok (.iload 6, 2) := dk_21 6 (dk_at dksX4_group_17 0 rfl rfl)
theorem dX4_group_399 : decode cX4_group 399 = .ok (.aload_n 0, 1) := dk_42 (dk_at dksX4_group_17 2 rfl rfl)
theorem dX4_group_400 : decode cX4_group 400 = .ok (.invokevirtual 103, 3) := dk_182 0 103 (dk_at dksX4_group_17 3 rfl rfl)
theorem dX4_group_403 : decode cX4_group 403 = .ok (.iastore, 1) := dk_79 (dk_at dksX4_group_17 6 rfl rfl)
theorem dX4_group_404 : decode cX4_group 404 = .ok (.iload 7, 2) := dk_21 7 (dk_at dksX4_group_17 7 rfl rfl)
theorem dX4_group_406 : decode cX4_group 406 = .ok (.iload_n 3, 1) := dk_29 (dk_at dksX4_group_17 9 rfl rfl)
theorem dX4_group_407 : decode cX4_group 407 = .ok (.bipush 40, 2) := dk_16 40 (dk_at dksX4_group_17 10 rfl rfl)
theorem dX4_group_409 : decode cX4_group 409 = .ok (.if_icmp .ne 7, 3) := dk_160 0 7 (dk_at dksX4_group_17 12 rfl rfl)
theorem dX4_group_412 : decode cX4_group 412 = .ok (.iconst 2, 1) := dk_5 (dk_at dksX4_group_17 15 rfl rfl)
theorem dX4_group_413 : decode cX4_group 413 = .ok (.goto 4, 3) := dk_167 0 4 (dk_at dksX4_group_17 16 rfl rfl)
theorem dX4_group_416 : decode cX4_group 416 = .ok (.iconst 1, 1) := dk_4 (dk_at dksX4_group_17 19 rfl rfl)
theorem dX4_group_417 : decode cX4_group 417 = .ok (.invokestatic 106, 3) := dk_184 0 106 (dk_at dksX4_group_17 20 rfl rfl)
theorem dX4_group_420 : decode cX4_group 420 = .ok (.ireturn, 1) := dk_172 (dk_at dksX4_group_17 23 rfl rfl)
abbrev cX4_broken : ByteArray := prog_21_method_4_code
def yX4_broken : MethodName := ⟨RX4, "broken", "()LLibraryDesk$Broken;"⟩
def dkwX4_broken_0 : List UInt8 := [187, 0, 28, 89, 42, 180, 0, 21, 183, 0, 30, 176]
abbrev dktX4_broken_0 : List UInt8 := dkwX4_broken_0 ++ []
theorem dksX4_broken_0 : cX4_broken.data.toList.drop 0 = dktX4_broken_0 := by decide +kernel
theorem dX4_broken_0 : decode cX4_broken 0 = .ok (.new 28, 3) := dk_187 0 28 (dk_at dksX4_broken_0 0 rfl rfl)
theorem dX4_broken_3 : decode cX4_broken 3 = .ok (.dup, 1) := dk_89 (dk_at dksX4_broken_0 3 rfl rfl)
theorem dX4_broken_4 : decode cX4_broken 4 = .ok (.aload_n 0, 1) := dk_42 (dk_at dksX4_broken_0 4 rfl rfl)
theorem dX4_broken_5 : decode cX4_broken 5 = .ok (.getfield 21, 3) := dk_180 0 21 (dk_at dksX4_broken_0 5 rfl rfl)
theorem dX4_broken_8 : decode cX4_broken 8 = .ok (.invokespecial 30, 3) := dk_183 0 30 (dk_at dksX4_broken_0 8 rfl rfl)
theorem dX4_broken_11 : decode cX4_broken 11 = .ok (.areturn, 1) := dk_176 (dk_at dksX4_broken_0 11 rfl rfl)
abbrev cX4_step : ByteArray := prog_21_method_7_code
def yX4_step : MethodName := ⟨RX4, "step", "(III)I"⟩
def dkwX4_step_0 : List UInt8 := [42, 180, 0, 37, 153, 0, 16, 42, 180, 0, 33, 27, 28, 29, 182, 0, 60, 167, 0, 4, 3, 172]
abbrev dktX4_step_0 : List UInt8 := dkwX4_step_0 ++ []
theorem dksX4_step_0 : cX4_step.data.toList.drop 0 = dktX4_step_0 := by decide +kernel
theorem dX4_step_0 : decode cX4_step 0 = .ok (.aload_n 0, 1) := dk_42 (dk_at dksX4_step_0 0 rfl rfl)
theorem dX4_step_1 : decode cX4_step 1 = .ok (.getfield 37, 3) := dk_180 0 37 (dk_at dksX4_step_0 1 rfl rfl)
theorem dX4_step_4 : decode cX4_step 4 = .ok (.ifCond .eq 16, 3) := dk_153 0 16 (dk_at dksX4_step_0 4 rfl rfl)
theorem dX4_step_7 : decode cX4_step 7 = .ok (.aload_n 0, 1) := dk_42 (dk_at dksX4_step_0 7 rfl rfl)
theorem dX4_step_8 : decode cX4_step 8 = .ok (.getfield 33, 3) := dk_180 0 33 (dk_at dksX4_step_0 8 rfl rfl)
theorem dX4_step_11 : decode cX4_step 11 = .ok (.iload_n 1, 1) := dk_27 (dk_at dksX4_step_0 11 rfl rfl)
theorem dX4_step_12 : decode cX4_step 12 = .ok (.iload_n 2, 1) := dk_28 (dk_at dksX4_step_0 12 rfl rfl)
theorem dX4_step_13 : decode cX4_step 13 = .ok (.iload_n 3, 1) := dk_29 (dk_at dksX4_step_0 13 rfl rfl)
theorem dX4_step_14 : decode cX4_step 14 = .ok (.invokevirtual 60, 3) := dk_182 0 60 (dk_at dksX4_step_0 14 rfl rfl)
theorem dX4_step_17 : decode cX4_step 17 = .ok (.goto 4, 3) := dk_167 0 4 (dk_at dksX4_step_0 17 rfl rfl)
theorem dX4_step_20 : decode cX4_step 20 = .ok (.iconst 0, 1) := dk_3 (dk_at dksX4_step_0 20 rfl rfl)
theorem dX4_step_21 : decode cX4_step 21 = .ok (.ireturn, 1) := dk_172 (dk_at dksX4_step_0 21 rfl rfl)
abbrev cX4_here : ByteArray := prog_21_method_8_code
def yX4_here : MethodName := ⟨RX4, "here", "()I"⟩
def dkwX4_here_0 : List UInt8 := [42, 180, 0, 33, 180, 0, 77, 172]
abbrev dktX4_here_0 : List UInt8 := dkwX4_here_0 ++ []
theorem dksX4_here_0 : cX4_here.data.toList.drop 0 = dktX4_here_0 := by decide +kernel
theorem dX4_here_0 : decode cX4_here 0 = .ok (.aload_n 0, 1) := dk_42 (dk_at dksX4_here_0 0 rfl rfl)
theorem dX4_here_1 : decode cX4_here 1 = .ok (.getfield 33, 3) := dk_180 0 33 (dk_at dksX4_here_0 1 rfl rfl)
theorem dX4_here_4 : decode cX4_here 4 = .ok (.getfield 77, 3) := dk_180 0 77 (dk_at dksX4_here_0 4 rfl rfl)
theorem dX4_here_7 : decode cX4_here 7 = .ok (.ireturn, 1) := dk_172 (dk_at dksX4_here_0 7 rfl rfl)
abbrev cX4_sum : ByteArray := prog_21_method_9_code
def yX4_sum : MethodName := ⟨RX4, "sum", "(II)I"⟩
def dkwX4_sum_0 : List UInt8 := [26, 27, 96, 18, 80, 164, 0, 8, 18, 80, 167, 0, 6, 26, 27, 96, 172]
abbrev dktX4_sum_0 : List UInt8 := dkwX4_sum_0 ++ []
theorem dksX4_sum_0 : cX4_sum.data.toList.drop 0 = dktX4_sum_0 := by decide +kernel
theorem dX4_sum_0 : decode cX4_sum 0 = .ok (.iload_n 0, 1) := dk_26 (dk_at dksX4_sum_0 0 rfl rfl)
theorem dX4_sum_1 : decode cX4_sum 1 = .ok (.iload_n 1, 1) := dk_27 (dk_at dksX4_sum_0 1 rfl rfl)
theorem dX4_sum_2 : decode cX4_sum 2 = .ok (.iadd, 1) := dk_96 (dk_at dksX4_sum_0 2 rfl rfl)
theorem dX4_sum_3 : decode cX4_sum 3 = .ok (.ldc 80, 2) := dk_18 80 (dk_at dksX4_sum_0 3 rfl rfl)
theorem dX4_sum_5 : decode cX4_sum 5 = .ok (.if_icmp .le 8, 3) := dk_164 0 8 (dk_at dksX4_sum_0 5 rfl rfl)
theorem dX4_sum_8 : decode cX4_sum 8 = .ok (.ldc 80, 2) := dk_18 80 (dk_at dksX4_sum_0 8 rfl rfl)
theorem dX4_sum_10 : decode cX4_sum 10 = .ok (.goto 6, 3) := dk_167 0 6 (dk_at dksX4_sum_0 10 rfl rfl)
theorem dX4_sum_13 : decode cX4_sum 13 = .ok (.iload_n 0, 1) := dk_26 (dk_at dksX4_sum_0 13 rfl rfl)
theorem dX4_sum_14 : decode cX4_sum 14 = .ok (.iload_n 1, 1) := dk_27 (dk_at dksX4_sum_0 14 rfl rfl)
theorem dX4_sum_15 : decode cX4_sum 15 = .ok (.iadd, 1) := dk_96 (dk_at dksX4_sum_0 15 rfl rfl)
theorem dX4_sum_16 : decode cX4_sum 16 = .ok (.ireturn, 1) := dk_172 (dk_at dksX4_sum_0 16 rfl rfl)
abbrev cX4_sets : ByteArray := prog_21_method_36_code
def yX4_sets : MethodName := ⟨RX4, "sets", "()I"⟩
def dkwX4_sets_3 : List UInt8 := [167, 255, 243, 42, 89, 180, 0, 21, 4, 96, 181, 0, 21, 42, 27, 182, 0, 217, 172]
abbrev dktX4_sets_3 : List UInt8 := dkwX4_sets_3 ++ []
def dkwX4_sets_2 : List UInt8 := [16, 93, 160, 0, 8, 42, 182, 0, 48, 191, 42, 182, 0, 93, 16, 93, 159, 0, 10, 42, 182, 0, 227]
abbrev dktX4_sets_2 : List UInt8 := dkwX4_sets_2 ++ dktX4_sets_3
def dkwX4_sets_1 : List UInt8 := [167, 0, 4, 3, 60, 27, 153, 0, 13, 42, 89, 180, 0, 21, 4, 96, 181, 0, 21, 42, 182, 0, 93]
abbrev dktX4_sets_1 : List UInt8 := dkwX4_sets_1 ++ dktX4_sets_2
def dkwX4_sets_0 : List UInt8 := [42, 89, 180, 0, 21, 4, 96, 181, 0, 21, 42, 182, 0, 211, 42, 182, 0, 93, 16, 94, 160, 0, 7, 4]
abbrev dktX4_sets_0 : List UInt8 := dkwX4_sets_0 ++ dktX4_sets_1
theorem dksX4_sets_0 : cX4_sets.data.toList.drop 0 = dktX4_sets_0 := by decide +kernel
theorem dksX4_sets_1 : cX4_sets.data.toList.drop 24 = dktX4_sets_1 := dk_seg dksX4_sets_0 24 rfl rfl
theorem dksX4_sets_2 : cX4_sets.data.toList.drop 47 = dktX4_sets_2 := dk_seg dksX4_sets_1 23 rfl rfl
theorem dksX4_sets_3 : cX4_sets.data.toList.drop 70 = dktX4_sets_3 := dk_seg dksX4_sets_2 23 rfl rfl
theorem dX4_sets_0 : decode cX4_sets 0 = .ok (.aload_n 0, 1) := dk_42 (dk_at dksX4_sets_0 0 rfl rfl)
theorem dX4_sets_1 : decode cX4_sets 1 = .ok (.dup, 1) := dk_89 (dk_at dksX4_sets_0 1 rfl rfl)
theorem dX4_sets_2 : decode cX4_sets 2 = .ok (.getfield 21, 3) := dk_180 0 21 (dk_at dksX4_sets_0 2 rfl rfl)
theorem dX4_sets_5 : decode cX4_sets 5 = .ok (.iconst 1, 1) := dk_4 (dk_at dksX4_sets_0 5 rfl rfl)
theorem dX4_sets_6 : decode cX4_sets 6 = .ok (.iadd, 1) := dk_96 (dk_at dksX4_sets_0 6 rfl rfl)
theorem dX4_sets_7 : decode cX4_sets 7 = .ok (.putfield 21, 3) := dk_181 0 21 (dk_at dksX4_sets_0 7 rfl rfl)
theorem dX4_sets_10 : decode cX4_sets 10 = .ok (.aload_n 0, 1) := dk_42 (dk_at dksX4_sets_0 10 rfl rfl)
theorem dX4_sets_11 : decode cX4_sets 11 = .ok (.invokevirtual 211, 3) := dk_182 0 211 (dk_at dksX4_sets_0 11 rfl rfl)
theorem dX4_sets_14 : decode cX4_sets 14 = .ok (.aload_n 0, 1) := dk_42 (dk_at dksX4_sets_0 14 rfl rfl)
theorem dX4_sets_15 : decode cX4_sets 15 = .ok (.invokevirtual 93, 3) := dk_182 0 93 (dk_at dksX4_sets_0 15 rfl rfl)
theorem dX4_sets_18 : decode cX4_sets 18 = .ok (.bipush 94, 2) := dk_16 94 (dk_at dksX4_sets_0 18 rfl rfl)
theorem dX4_sets_20 : decode cX4_sets 20 = .ok (.if_icmp .ne 7, 3) := dk_160 0 7 (dk_at dksX4_sets_0 20 rfl rfl)
theorem dX4_sets_23 : decode cX4_sets 23 = .ok (.iconst 1, 1) := dk_4 (dk_at dksX4_sets_0 23 rfl rfl)
theorem dX4_sets_24 : decode cX4_sets 24 = .ok (.goto 4, 3) := dk_167 0 4 (dk_at dksX4_sets_1 0 rfl rfl)
theorem dX4_sets_27 : decode cX4_sets 27 = .ok (.iconst 0, 1) := dk_3 (dk_at dksX4_sets_1 3 rfl rfl)
theorem dX4_sets_28 : decode cX4_sets 28 = .ok (.istore_n 1, 1) := dk_60 (dk_at dksX4_sets_1 4 rfl rfl)
theorem dX4_sets_29 : decode cX4_sets 29 = .ok (.iload_n 1, 1) := dk_27 (dk_at dksX4_sets_1 5 rfl rfl)
theorem dX4_sets_30 : decode cX4_sets 30 = .ok (.ifCond .eq 13, 3) := dk_153 0 13 (dk_at dksX4_sets_1 6 rfl rfl)
theorem dX4_sets_33 : decode cX4_sets 33 = .ok (.aload_n 0, 1) := dk_42 (dk_at dksX4_sets_1 9 rfl rfl)
theorem dX4_sets_34 : decode cX4_sets 34 = .ok (.dup, 1) := dk_89 (dk_at dksX4_sets_1 10 rfl rfl)
theorem dX4_sets_35 : decode cX4_sets 35 = .ok (.getfield 21, 3) := dk_180 0 21 (dk_at dksX4_sets_1 11 rfl rfl)
theorem dX4_sets_38 : decode cX4_sets 38 = .ok (.iconst 1, 1) := dk_4 (dk_at dksX4_sets_1 14 rfl rfl)
theorem dX4_sets_39 : decode cX4_sets 39 = .ok (.iadd, 1) := dk_96 (dk_at dksX4_sets_1 15 rfl rfl)
theorem dX4_sets_40 : decode cX4_sets 40 = .ok (.putfield 21, 3) := dk_181 0 21 (dk_at dksX4_sets_1 16 rfl rfl)
theorem dX4_sets_43 : decode cX4_sets 43 = .ok (.aload_n 0, 1) := dk_42 (dk_at dksX4_sets_1 19 rfl rfl)
theorem dX4_sets_44 : decode cX4_sets 44 = .ok (.invokevirtual 93, 3) := dk_182 0 93 (dk_at dksX4_sets_1 20 rfl rfl)
theorem dX4_sets_47 : decode cX4_sets 47 = .ok (.bipush 93, 2) := dk_16 93 (dk_at dksX4_sets_2 0 rfl rfl)
theorem dX4_sets_49 : decode cX4_sets 49 = .ok (.if_icmp .ne 8, 3) := dk_160 0 8 (dk_at dksX4_sets_2 2 rfl rfl)
theorem dX4_sets_52 : decode cX4_sets 52 = .ok (.aload_n 0, 1) := dk_42 (dk_at dksX4_sets_2 5 rfl rfl)
theorem dX4_sets_53 : decode cX4_sets 53 = .ok (.invokevirtual 48, 3) := dk_182 0 48 (dk_at dksX4_sets_2 6 rfl rfl)
theorem dX4_sets_56 : decode cX4_sets 56 = .ok (.athrow, 1) := dk_191 (dk_at dksX4_sets_2 9 rfl rfl)
theorem dX4_sets_57 : decode cX4_sets 57 = .ok (.aload_n 0, 1) := dk_42 (dk_at dksX4_sets_2 10 rfl rfl)
theorem dX4_sets_58 : decode cX4_sets 58 = .ok (.invokevirtual 93, 3) := dk_182 0 93 (dk_at dksX4_sets_2 11 rfl rfl)
theorem dX4_sets_61 : decode cX4_sets 61 = .ok (.bipush 93, 2) := dk_16 93 (dk_at dksX4_sets_2 14 rfl rfl)
theorem dX4_sets_63 : decode cX4_sets 63 = .ok (.if_icmp .eq 10, 3) := dk_159 0 10 (dk_at dksX4_sets_2 16 rfl rfl)
theorem dX4_sets_66 : decode cX4_sets 66 = .ok (.aload_n 0, 1) := dk_42 (dk_at dksX4_sets_2 19 rfl rfl)
theorem dX4_sets_67 : decode cX4_sets 67 = .ok (.invokevirtual 227, 3) := dk_182 0 227 (dk_at dksX4_sets_2 20 rfl rfl)
theorem dX4_sets_70 : decode cX4_sets 70 = .ok (.goto (-13), 3) := dk_167 255 243 (dk_at dksX4_sets_3 0 rfl rfl)
theorem dX4_sets_73 : decode cX4_sets 73 = .ok (.aload_n 0, 1) := dk_42 (dk_at dksX4_sets_3 3 rfl rfl)
theorem dX4_sets_74 : decode cX4_sets 74 = .ok (.dup, 1) := dk_89 (dk_at dksX4_sets_3 4 rfl rfl)
theorem dX4_sets_75 : decode cX4_sets 75 = .ok (.getfield 21, 3) := dk_180 0 21 (dk_at dksX4_sets_3 5 rfl rfl)
theorem dX4_sets_78 : decode cX4_sets 78 = .ok (.iconst 1, 1) := dk_4 (dk_at dksX4_sets_3 8 rfl rfl)
theorem dX4_sets_79 : decode cX4_sets 79 = .ok (.iadd, 1) := dk_96 (dk_at dksX4_sets_3 9 rfl rfl)
theorem dX4_sets_80 : decode cX4_sets 80 = .ok (.putfield 21, 3) := dk_181 0 21 (dk_at dksX4_sets_3 10 rfl rfl)
theorem dX4_sets_83 : decode cX4_sets 83 = .ok (.aload_n 0, 1) := dk_42 (dk_at dksX4_sets_3 13 rfl rfl)
theorem dX4_sets_84 : decode cX4_sets 84 = .ok (.iload_n 1, 1) := dk_27 (dk_at dksX4_sets_3 14 rfl rfl)
theorem dX4_sets_85 : decode cX4_sets 85 = .ok (.invokevirtual 217, 3) := dk_182 0 217 (dk_at dksX4_sets_3 15 rfl rfl)
theorem dX4_sets_88 : decode cX4_sets 88 = .ok (.ireturn, 1) := dk_172 (dk_at dksX4_sets_3 18 rfl rfl)
abbrev cX4_clear : ByteArray := prog_21_method_31_code
def yX4_clear : MethodName := ⟨RX4, "clea\x72", "()V"⟩
def dkwX4_clear_0 : List UInt8 := [3, 60, 27, 7, 162, 0, 16, 42, 180, 0, 7, 27, 9, 80, 132, 1, 1, 167, 255, 241, 177]
abbrev dktX4_clear_0 : List UInt8 := dkwX4_clear_0 ++ []
theorem dksX4_clear_0 : cX4_clear.data.toList.drop 0 = dktX4_clear_0 := by decide +kernel
theorem dX4_clear_0 : decode cX4_clear 0 = .ok (.iconst 0, 1) := dk_3 (dk_at dksX4_clear_0 0 rfl rfl)
theorem dX4_clear_1 : decode cX4_clear 1 = .ok (.istore_n 1, 1) := dk_60 (dk_at dksX4_clear_0 1 rfl rfl)
theorem dX4_clear_2 : decode cX4_clear 2 = .ok (.iload_n 1, 1) := dk_27 (dk_at dksX4_clear_0 2 rfl rfl)
theorem dX4_clear_3 : decode cX4_clear 3 = .ok (.iconst 4, 1) := dk_7 (dk_at dksX4_clear_0 3 rfl rfl)
theorem dX4_clear_4 : decode cX4_clear 4 = .ok (.if_icmp .ge 16, 3) := dk_162 0 16 (dk_at dksX4_clear_0 4 rfl rfl)
theorem dX4_clear_7 : decode cX4_clear 7 = .ok (.aload_n 0, 1) := dk_42 (dk_at dksX4_clear_0 7 rfl rfl)
theorem dX4_clear_8 : decode cX4_clear 8 = .ok (.getfield 7, 3) := dk_180 0 7 (dk_at dksX4_clear_0 8 rfl rfl)
theorem dX4_clear_11 : decode cX4_clear 11 = .ok (.iload_n 1, 1) := dk_27 (dk_at dksX4_clear_0 11 rfl rfl)
theorem dX4_clear_12 : decode cX4_clear 12 = .ok (.lconst 0, 1) := dk_9 (dk_at dksX4_clear_0 12 rfl rfl)
theorem dX4_clear_13 : decode cX4_clear 13 = .ok (.lastore, 1) := dk_80 (dk_at dksX4_clear_0 13 rfl rfl)
theorem dX4_clear_14 : decode cX4_clear 14 = .ok (.iinc 1 1, 3) := dk_132 1 1 (dk_at dksX4_clear_0 14 rfl rfl)
theorem dX4_clear_17 : decode cX4_clear 17 = .ok (.goto (-15), 3) := dk_167 255 241 (dk_at dksX4_clear_0 17 rfl rfl)
theorem dX4_clear_20 : decode cX4_clear 20 = .ok (.return_, 1) := dk_177 (dk_at dksX4_clear_0 20 rfl rfl)
abbrev cX4_element : ByteArray := prog_21_method_37_code
def yX4_element : MethodName := ⟨RX4, "element", "()V"⟩
def dkwX4_element_10 : List UInt8 := [167, 255, 240, 177]
abbrev dktX4_element_10 : List UInt8 := dkwX4_element_10 ++ []
def dkwX4_element_9 : List UInt8 := [5, 96, 181, 0, 21, 27, 54, 5, 21, 5, 21, 4, 163, 0, 15, 42, 21, 5, 182, 0, 198, 132, 5, 1]
abbrev dktX4_element_9 : List UInt8 := dkwX4_element_9 ++ dktX4_element_10
def dkwX4_element_8 : List UInt8 := [182, 0, 48, 191, 21, 4, 27, 162, 0, 12, 187, 0, 28, 89, 28, 183, 0, 30, 191, 42, 89, 180, 0, 21]
abbrev dktX4_element_8 : List UInt8 := dkwX4_element_8 ++ dktX4_element_9
def dkwX4_element_7 : List UInt8 := [16, 32, 161, 0, 10, 21, 4, 16, 126, 164, 0, 18, 42, 89, 180, 0, 21, 4, 96, 181, 0, 21, 42]
abbrev dktX4_element_7 : List UInt8 := dkwX4_element_7 ++ dktX4_element_8
def dkwX4_element_6 : List UInt8 := [29, 154, 0, 9, 42, 27, 182, 0, 198, 177, 42, 42, 180, 0, 21, 4, 96, 182, 0, 24, 54, 4, 21, 4]
abbrev dktX4_element_6 : List UInt8 := dkwX4_element_6 ++ dktX4_element_7
def dkwX4_element_5 : List UInt8 := [159, 0, 22, 42, 42, 180, 0, 21, 4, 96, 182, 0, 24, 16, 92, 159, 0, 7, 4, 167, 0, 4, 3, 62]
abbrev dktX4_element_5 : List UInt8 := dkwX4_element_5 ++ dktX4_element_6
def dkwX4_element_4 : List UInt8 := [180, 0, 21, 4, 96, 42, 180, 0, 13, 162, 0, 37, 42, 42, 180, 0, 21, 4, 96, 182, 0, 24, 16, 93]
abbrev dktX4_element_4 : List UInt8 := dkwX4_element_4 ++ dktX4_element_5
def dkwX4_element_3 : List UInt8 := [167, 0, 13, 42, 29, 182, 0, 221, 42, 29, 182, 0, 198, 177, 42, 182, 0, 93, 16, 45, 160, 0, 50, 42]
abbrev dktX4_element_3 : List UInt8 := dkwX4_element_3 ++ dktX4_element_4
def dkwX4_element_2 : List UInt8 := [62, 42, 29, 182, 0, 208, 153, 0, 21, 42, 89, 180, 0, 21, 4, 96, 181, 0, 21, 42, 29, 182, 0, 214]
abbrev dktX4_element_2 : List UInt8 := dkwX4_element_2 ++ dktX4_element_3
def dkwX4_element_1 : List UInt8 := [180, 0, 21, 61, 42, 89, 180, 0, 21, 4, 96, 181, 0, 21, 27, 16, 92, 160, 0, 45, 42, 182, 0, 93]
abbrev dktX4_element_1 : List UInt8 := dkwX4_element_1 ++ dktX4_element_2
def dkwX4_element_0 : List UInt8 := [42, 182, 0, 93, 60, 27, 16, 32, 161, 0, 9, 27, 16, 126, 164, 0, 8, 42, 182, 0, 48, 191, 42]
abbrev dktX4_element_0 : List UInt8 := dkwX4_element_0 ++ dktX4_element_1
theorem dksX4_element_0 : cX4_element.data.toList.drop 0 = dktX4_element_0 := by decide +kernel
theorem dksX4_element_1 : cX4_element.data.toList.drop 23 = dktX4_element_1 := dk_seg dksX4_element_0 23 rfl rfl
theorem dksX4_element_2 : cX4_element.data.toList.drop 47 = dktX4_element_2 := dk_seg dksX4_element_1 24 rfl rfl
theorem dksX4_element_3 : cX4_element.data.toList.drop 71 = dktX4_element_3 := dk_seg dksX4_element_2 24 rfl rfl
theorem dksX4_element_4 : cX4_element.data.toList.drop 95 = dktX4_element_4 := dk_seg dksX4_element_3 24 rfl rfl
theorem dksX4_element_5 : cX4_element.data.toList.drop 119 = dktX4_element_5 := dk_seg dksX4_element_4 24 rfl rfl
theorem dksX4_element_6 : cX4_element.data.toList.drop 143 = dktX4_element_6 := dk_seg dksX4_element_5 24 rfl rfl
theorem dksX4_element_7 : cX4_element.data.toList.drop 167 = dktX4_element_7 := dk_seg dksX4_element_6 24 rfl rfl
theorem dksX4_element_8 : cX4_element.data.toList.drop 190 = dktX4_element_8 := dk_seg dksX4_element_7 23 rfl rfl
theorem dksX4_element_9 : cX4_element.data.toList.drop 214 = dktX4_element_9 := dk_seg dksX4_element_8 24 rfl rfl
theorem dksX4_element_10 : cX4_element.data.toList.drop 238 = dktX4_element_10 := dk_seg dksX4_element_9 24 rfl rfl
theorem dX4_element_0 : decode cX4_element 0 = .ok (.aload_n 0, 1) := dk_42 (dk_at dksX4_element_0 0 rfl rfl)
theorem dX4_element_1 : decode cX4_element 1 = .ok (.invokevirtual 93, 3) := dk_182 0 93 (dk_at dksX4_element_0 1 rfl rfl)
theorem dX4_element_4 : decode cX4_element 4 = .ok (.istore_n 1, 1) := dk_60 (dk_at dksX4_element_0 4 rfl rfl)
theorem dX4_element_5 : decode cX4_element 5 = .ok (.iload_n 1, 1) := dk_27 (dk_at dksX4_element_0 5 rfl rfl)
theorem dX4_element_6 : decode cX4_element 6 = .ok (.bipush 32, 2) := dk_16 32 (dk_at dksX4_element_0 6 rfl rfl)
theorem dX4_element_8 : decode cX4_element 8 = .ok (.if_icmp .lt 9, 3) := dk_161 0 9 (dk_at dksX4_element_0 8 rfl rfl)
theorem dX4_element_11 : decode cX4_element 11 = .ok (.iload_n 1, 1) := dk_27 (dk_at dksX4_element_0 11 rfl rfl)
theorem dX4_element_12 : decode cX4_element 12 = .ok (.bipush 126, 2) := dk_16 126 (dk_at dksX4_element_0 12 rfl rfl)
theorem dX4_element_14 : decode cX4_element 14 = .ok (.if_icmp .le 8, 3) := dk_164 0 8 (dk_at dksX4_element_0 14 rfl rfl)
theorem dX4_element_17 : decode cX4_element 17 = .ok (.aload_n 0, 1) := dk_42 (dk_at dksX4_element_0 17 rfl rfl)
theorem dX4_element_18 : decode cX4_element 18 = .ok (.invokevirtual 48, 3) := dk_182 0 48 (dk_at dksX4_element_0 18 rfl rfl)
theorem dX4_element_21 : decode cX4_element 21 = .ok (.athrow, 1) := dk_191 (dk_at dksX4_element_0 21 rfl rfl)
theorem dX4_element_22 : decode cX4_element 22 = .ok (.aload_n 0, 1) := dk_42 (dk_at dksX4_element_0 22 rfl rfl)
theorem dX4_element_23 : decode cX4_element 23 = .ok (.getfield 21, 3) := dk_180 0 21 (dk_at dksX4_element_1 0 rfl rfl)
theorem dX4_element_26 : decode cX4_element 26 = .ok (.istore_n 2, 1) := dk_61 (dk_at dksX4_element_1 3 rfl rfl)
theorem dX4_element_27 : decode cX4_element 27 = .ok (.aload_n 0, 1) := dk_42 (dk_at dksX4_element_1 4 rfl rfl)
theorem dX4_element_28 : decode cX4_element 28 = .ok (.dup, 1) := dk_89 (dk_at dksX4_element_1 5 rfl rfl)
theorem dX4_element_29 : decode cX4_element 29 = .ok (.getfield 21, 3) := dk_180 0 21 (dk_at dksX4_element_1 6 rfl rfl)
theorem dX4_element_32 : decode cX4_element 32 = .ok (.iconst 1, 1) := dk_4 (dk_at dksX4_element_1 9 rfl rfl)
theorem dX4_element_33 : decode cX4_element 33 = .ok (.iadd, 1) := dk_96 (dk_at dksX4_element_1 10 rfl rfl)
theorem dX4_element_34 : decode cX4_element 34 = .ok (.putfield 21, 3) := dk_181 0 21 (dk_at dksX4_element_1 11 rfl rfl)
theorem dX4_element_37 : decode cX4_element 37 = .ok (.iload_n 1, 1) := dk_27 (dk_at dksX4_element_1 14 rfl rfl)
theorem dX4_element_38 : decode cX4_element 38 = .ok (.bipush 92, 2) := dk_16 92 (dk_at dksX4_element_1 15 rfl rfl)
theorem dX4_element_40 : decode cX4_element 40 = .ok (.if_icmp .ne 45, 3) := dk_160 0 45 (dk_at dksX4_element_1 17 rfl rfl)
theorem dX4_element_43 : decode cX4_element 43 = .ok (.aload_n 0, 1) := dk_42 (dk_at dksX4_element_1 20 rfl rfl)
theorem dX4_element_44 : decode cX4_element 44 = .ok (.invokevirtual 93, 3) := dk_182 0 93 (dk_at dksX4_element_1 21 rfl rfl)
theorem dX4_element_47 : decode cX4_element 47 = .ok (.istore_n 3, 1) := dk_62 (dk_at dksX4_element_2 0 rfl rfl)
theorem dX4_element_48 : decode cX4_element 48 = .ok (.aload_n 0, 1) := dk_42 (dk_at dksX4_element_2 1 rfl rfl)
theorem dX4_element_49 : decode cX4_element 49 = .ok (.iload_n 3, 1) := dk_29 (dk_at dksX4_element_2 2 rfl rfl)
theorem dX4_element_50 : decode cX4_element 50 = .ok (.invokevirtual 208, 3) := dk_182 0 208 (dk_at dksX4_element_2 3 rfl rfl)
theorem dX4_element_53 : decode cX4_element 53 = .ok (.ifCond .eq 21, 3) := dk_153 0 21 (dk_at dksX4_element_2 6 rfl rfl)
theorem dX4_element_56 : decode cX4_element 56 = .ok (.aload_n 0, 1) := dk_42 (dk_at dksX4_element_2 9 rfl rfl)
theorem dX4_element_57 : decode cX4_element 57 = .ok (.dup, 1) := dk_89 (dk_at dksX4_element_2 10 rfl rfl)
theorem dX4_element_58 : decode cX4_element 58 = .ok (.getfield 21, 3) := dk_180 0 21 (dk_at dksX4_element_2 11 rfl rfl)
theorem dX4_element_61 : decode cX4_element 61 = .ok (.iconst 1, 1) := dk_4 (dk_at dksX4_element_2 14 rfl rfl)
theorem dX4_element_62 : decode cX4_element 62 = .ok (.iadd, 1) := dk_96 (dk_at dksX4_element_2 15 rfl rfl)
theorem dX4_element_63 : decode cX4_element 63 = .ok (.putfield 21, 3) := dk_181 0 21 (dk_at dksX4_element_2 16 rfl rfl)
theorem dX4_element_66 : decode cX4_element 66 = .ok (.aload_n 0, 1) := dk_42 (dk_at dksX4_element_2 19 rfl rfl)
theorem dX4_element_67 : decode cX4_element 67 = .ok (.iload_n 3, 1) := dk_29 (dk_at dksX4_element_2 20 rfl rfl)
theorem dX4_element_68 : decode cX4_element 68 = .ok (.invokevirtual 214, 3) := dk_182 0 214 (dk_at dksX4_element_2 21 rfl rfl)
theorem dX4_element_71 : decode cX4_element 71 = .ok (.goto 13, 3) := dk_167 0 13 (dk_at dksX4_element_3 0 rfl rfl)
theorem dX4_element_74 : decode cX4_element 74 = .ok (.aload_n 0, 1) := dk_42 (dk_at dksX4_element_3 3 rfl rfl)
theorem dX4_element_75 : decode cX4_element 75 = .ok (.iload_n 3, 1) := dk_29 (dk_at dksX4_element_3 4 rfl rfl)
theorem dX4_element_76 : decode cX4_element 76 = .ok (.invokevirtual 221, 3) := dk_182 0 221 (dk_at dksX4_element_3 5 rfl rfl)
theorem dX4_element_79 : decode cX4_element 79 = .ok (.aload_n 0, 1) := dk_42 (dk_at dksX4_element_3 8 rfl rfl)
theorem dX4_element_80 : decode cX4_element 80 = .ok (.iload_n 3, 1) := dk_29 (dk_at dksX4_element_3 9 rfl rfl)
theorem dX4_element_81 : decode cX4_element 81 = .ok (.invokevirtual 198, 3) := dk_182 0 198 (dk_at dksX4_element_3 10 rfl rfl)
theorem dX4_element_84 : decode cX4_element 84 = .ok (.return_, 1) := dk_177 (dk_at dksX4_element_3 13 rfl rfl)
theorem dX4_element_85 : decode cX4_element 85 = .ok (.aload_n 0, 1) := dk_42 (dk_at dksX4_element_3 14 rfl rfl)
theorem dX4_element_86 : decode cX4_element 86 = .ok (.invokevirtual 93, 3) := dk_182 0 93 (dk_at dksX4_element_3 15 rfl rfl)
theorem dX4_element_89 : decode cX4_element 89 = .ok (.bipush 45, 2) := dk_16 45 (dk_at dksX4_element_3 18 rfl rfl)
theorem dX4_element_91 : decode cX4_element 91 = .ok (.if_icmp .ne 50, 3) := dk_160 0 50 (dk_at dksX4_element_3 20 rfl rfl)
theorem dX4_element_94 : decode cX4_element 94 = .ok (.aload_n 0, 1) := dk_42 (dk_at dksX4_element_3 23 rfl rfl)
theorem dX4_element_95 : decode cX4_element 95 = .ok (.getfield 21, 3) := dk_180 0 21 (dk_at dksX4_element_4 0 rfl rfl)
theorem dX4_element_98 : decode cX4_element 98 = .ok (.iconst 1, 1) := dk_4 (dk_at dksX4_element_4 3 rfl rfl)
theorem dX4_element_99 : decode cX4_element 99 = .ok (.iadd, 1) := dk_96 (dk_at dksX4_element_4 4 rfl rfl)
theorem dX4_element_100 : decode cX4_element 100 = .ok (.aload_n 0, 1) := dk_42 (dk_at dksX4_element_4 5 rfl rfl)
theorem dX4_element_101 : decode cX4_element 101 = .ok (.getfield 13, 3) := dk_180 0 13 (dk_at dksX4_element_4 6 rfl rfl)
theorem dX4_element_104 : decode cX4_element 104 = .ok (.if_icmp .ge 37, 3) := dk_162 0 37 (dk_at dksX4_element_4 9 rfl rfl)
theorem dX4_element_107 : decode cX4_element 107 = .ok (.aload_n 0, 1) := dk_42 (dk_at dksX4_element_4 12 rfl rfl)
theorem dX4_element_108 : decode cX4_element 108 = .ok (.aload_n 0, 1) := dk_42 (dk_at dksX4_element_4 13 rfl rfl)
theorem dX4_element_109 : decode cX4_element 109 = .ok (.getfield 21, 3) := dk_180 0 21 (dk_at dksX4_element_4 14 rfl rfl)
theorem dX4_element_112 : decode cX4_element 112 = .ok (.iconst 1, 1) := dk_4 (dk_at dksX4_element_4 17 rfl rfl)
theorem dX4_element_113 : decode cX4_element 113 = .ok (.iadd, 1) := dk_96 (dk_at dksX4_element_4 18 rfl rfl)
theorem dX4_element_114 : decode cX4_element 114 = .ok (.invokevirtual 24, 3) := dk_182 0 24 (dk_at dksX4_element_4 19 rfl rfl)
theorem dX4_element_117 : decode cX4_element 117 = .ok (.bipush 93, 2) := dk_16 93 (dk_at dksX4_element_4 22 rfl rfl)
theorem dX4_element_119 : decode cX4_element 119 = .ok (.if_icmp .eq 22, 3) := dk_159 0 22 (dk_at dksX4_element_5 0 rfl rfl)
theorem dX4_element_122 : decode cX4_element 122 = .ok (.aload_n 0, 1) := dk_42 (dk_at dksX4_element_5 3 rfl rfl)
theorem dX4_element_123 : decode cX4_element 123 = .ok (.aload_n 0, 1) := dk_42 (dk_at dksX4_element_5 4 rfl rfl)
theorem dX4_element_124 : decode cX4_element 124 = .ok (.getfield 21, 3) := dk_180 0 21 (dk_at dksX4_element_5 5 rfl rfl)
theorem dX4_element_127 : decode cX4_element 127 = .ok (.iconst 1, 1) := dk_4 (dk_at dksX4_element_5 8 rfl rfl)
theorem dX4_element_128 : decode cX4_element 128 = .ok (.iadd, 1) := dk_96 (dk_at dksX4_element_5 9 rfl rfl)
theorem dX4_element_129 : decode cX4_element 129 = .ok (.invokevirtual 24, 3) := dk_182 0 24 (dk_at dksX4_element_5 10 rfl rfl)
theorem dX4_element_132 : decode cX4_element 132 = .ok (.bipush 92, 2) := dk_16 92 (dk_at dksX4_element_5 13 rfl rfl)
theorem dX4_element_134 : decode cX4_element 134 = .ok (.if_icmp .eq 7, 3) := dk_159 0 7 (dk_at dksX4_element_5 15 rfl rfl)
theorem dX4_element_137 : decode cX4_element 137 = .ok (.iconst 1, 1) := dk_4 (dk_at dksX4_element_5 18 rfl rfl)
theorem dX4_element_138 : decode cX4_element 138 = .ok (.goto 4, 3) := dk_167 0 4 (dk_at dksX4_element_5 19 rfl rfl)
theorem dX4_element_141 : decode cX4_element 141 = .ok (.iconst 0, 1) := dk_3 (dk_at dksX4_element_5 22 rfl rfl)
theorem dX4_element_142 : decode cX4_element 142 = .ok (.istore_n 3, 1) := dk_62 (dk_at dksX4_element_5 23 rfl rfl)
theorem dX4_element_143 : decode cX4_element 143 = .ok (.iload_n 3, 1) := dk_29 (dk_at dksX4_element_6 0 rfl rfl)
theorem dX4_element_144 : decode cX4_element 144 = .ok (.ifCond .ne 9, 3) := dk_154 0 9 (dk_at dksX4_element_6 1 rfl rfl)
theorem dX4_element_147 : decode cX4_element 147 = .ok (.aload_n 0, 1) := dk_42 (dk_at dksX4_element_6 4 rfl rfl)
theorem dX4_element_148 : decode cX4_element 148 = .ok (.iload_n 1, 1) := dk_27 (dk_at dksX4_element_6 5 rfl rfl)
theorem dX4_element_149 : decode cX4_element 149 = .ok (.invokevirtual 198, 3) := dk_182 0 198 (dk_at dksX4_element_6 6 rfl rfl)
theorem dX4_element_152 : decode cX4_element 152 = .ok (.return_, 1) := dk_177 (dk_at dksX4_element_6 9 rfl rfl)
theorem dX4_element_153 : decode cX4_element 153 = .ok (.aload_n 0, 1) := dk_42 (dk_at dksX4_element_6 10 rfl rfl)
theorem dX4_element_154 : decode cX4_element 154 = .ok (.aload_n 0, 1) := dk_42 (dk_at dksX4_element_6 11 rfl rfl)
theorem dX4_element_155 : decode cX4_element 155 = .ok (.getfield 21, 3) := dk_180 0 21 (dk_at dksX4_element_6 12 rfl rfl)
theorem dX4_element_158 : decode cX4_element 158 = .ok (.iconst 1, 1) := dk_4 (dk_at dksX4_element_6 15 rfl rfl)
theorem dX4_element_159 : decode cX4_element 159 = .ok (.iadd, 1) := dk_96 (dk_at dksX4_element_6 16 rfl rfl)
theorem dX4_element_160 : decode cX4_element 160 = .ok (.invokevirtual 24, 3) := dk_182 0 24 (dk_at dksX4_element_6 17 rfl rfl)
theorem dX4_element_163 : decode cX4_element 163 = .ok (.istore 4, 2) := dk_54 4 (dk_at dksX4_element_6 20 rfl rfl)
theorem dX4_element_165 : decode cX4_element 165 = .ok (.iload 4, 2) := dk_21 4 (dk_at dksX4_element_6 22 rfl rfl)
theorem dX4_element_167 : decode cX4_element 167 = .ok (.bipush 32, 2) := dk_16 32 (dk_at dksX4_element_7 0 rfl rfl)
theorem dX4_element_169 : decode cX4_element 169 = .ok (.if_icmp .lt 10, 3) := dk_161 0 10 (dk_at dksX4_element_7 2 rfl rfl)
theorem dX4_element_172 : decode cX4_element 172 = .ok (.iload 4, 2) := dk_21 4 (dk_at dksX4_element_7 5 rfl rfl)
theorem dX4_element_174 : decode cX4_element 174 = .ok (.bipush 126, 2) := dk_16 126 (dk_at dksX4_element_7 7 rfl rfl)
theorem dX4_element_176 : decode cX4_element 176 = .ok (.if_icmp .le 18, 3) := dk_164 0 18 (dk_at dksX4_element_7 9 rfl rfl)
theorem dX4_element_179 : decode cX4_element 179 = .ok (.aload_n 0, 1) := dk_42 (dk_at dksX4_element_7 12 rfl rfl)
theorem dX4_element_180 : decode cX4_element 180 = .ok (.dup, 1) := dk_89 (dk_at dksX4_element_7 13 rfl rfl)
theorem dX4_element_181 : decode cX4_element 181 = .ok (.getfield 21, 3) := dk_180 0 21 (dk_at dksX4_element_7 14 rfl rfl)
theorem dX4_element_184 : decode cX4_element 184 = .ok (.iconst 1, 1) := dk_4 (dk_at dksX4_element_7 17 rfl rfl)
theorem dX4_element_185 : decode cX4_element 185 = .ok (.iadd, 1) := dk_96 (dk_at dksX4_element_7 18 rfl rfl)
theorem dX4_element_186 : decode cX4_element 186 = .ok (.putfield 21, 3) := dk_181 0 21 (dk_at dksX4_element_7 19 rfl rfl)
theorem dX4_element_189 : decode cX4_element 189 = .ok (.aload_n 0, 1) := dk_42 (dk_at dksX4_element_7 22 rfl rfl)
theorem dX4_element_190 : decode cX4_element 190 = .ok (.invokevirtual 48, 3) := dk_182 0 48 (dk_at dksX4_element_8 0 rfl rfl)
theorem dX4_element_193 : decode cX4_element 193 = .ok (.athrow, 1) := dk_191 (dk_at dksX4_element_8 3 rfl rfl)
theorem dX4_element_194 : decode cX4_element 194 = .ok (.iload 4, 2) := dk_21 4 (dk_at dksX4_element_8 4 rfl rfl)
theorem dX4_element_196 : decode cX4_element 196 = .ok (.iload_n 1, 1) := dk_27 (dk_at dksX4_element_8 6 rfl rfl)
theorem dX4_element_197 : decode cX4_element 197 = .ok (.if_icmp .ge 12, 3) := dk_162 0 12 (dk_at dksX4_element_8 7 rfl rfl)
theorem dX4_element_200 : decode cX4_element 200 = .ok (.new 28, 3) := dk_187 0 28 (dk_at dksX4_element_8 10 rfl rfl)
theorem dX4_element_203 : decode cX4_element 203 = .ok (.dup, 1) := dk_89 (dk_at dksX4_element_8 13 rfl rfl)
theorem dX4_element_204 : decode cX4_element 204 = .ok (.iload_n 2, 1) := dk_28 (dk_at dksX4_element_8 14 rfl rfl)
theorem dX4_element_205 : decode cX4_element 205 = .ok (.invokespecial 30, 3) := dk_183 0 30 (dk_at dksX4_element_8 15 rfl rfl)
theorem dX4_element_208 : decode cX4_element 208 = .ok (.athrow, 1) := dk_191 (dk_at dksX4_element_8 18 rfl rfl)
theorem dX4_element_209 : decode cX4_element 209 = .ok (.aload_n 0, 1) := dk_42 (dk_at dksX4_element_8 19 rfl rfl)
theorem dX4_element_210 : decode cX4_element 210 = .ok (.dup, 1) := dk_89 (dk_at dksX4_element_8 20 rfl rfl)
theorem dX4_element_211 : decode cX4_element 211 = .ok (.getfield 21, 3) := dk_180 0 21 (dk_at dksX4_element_8 21 rfl rfl)
theorem dX4_element_214 : decode cX4_element 214 = .ok (.iconst 2, 1) := dk_5 (dk_at dksX4_element_9 0 rfl rfl)
theorem dX4_element_215 : decode cX4_element 215 = .ok (.iadd, 1) := dk_96 (dk_at dksX4_element_9 1 rfl rfl)
theorem dX4_element_216 : decode cX4_element 216 = .ok (.putfield 21, 3) := dk_181 0 21 (dk_at dksX4_element_9 2 rfl rfl)
theorem dX4_element_219 : decode cX4_element 219 = .ok (.iload_n 1, 1) := dk_27 (dk_at dksX4_element_9 5 rfl rfl)
theorem dX4_element_220 : decode cX4_element 220 = .ok (.istore 5, 2) := dk_54 5 (dk_at dksX4_element_9 6 rfl rfl)
theorem dX4_element_222 : decode cX4_element 222 = .ok (.iload 5, 2) := dk_21 5 (dk_at dksX4_element_9 8 rfl rfl)
theorem dX4_element_224 : decode cX4_element 224 = .ok (.iload 4, 2) := dk_21 4 (dk_at dksX4_element_9 10 rfl rfl)
theorem dX4_element_226 : decode cX4_element 226 = .ok (.if_icmp .gt 15, 3) := dk_163 0 15 (dk_at dksX4_element_9 12 rfl rfl)
theorem dX4_element_229 : decode cX4_element 229 = .ok (.aload_n 0, 1) := dk_42 (dk_at dksX4_element_9 15 rfl rfl)
theorem dX4_element_230 : decode cX4_element 230 = .ok (.iload 5, 2) := dk_21 5 (dk_at dksX4_element_9 16 rfl rfl)
theorem dX4_element_232 : decode cX4_element 232 = .ok (.invokevirtual 198, 3) := dk_182 0 198 (dk_at dksX4_element_9 18 rfl rfl)
theorem dX4_element_235 : decode cX4_element 235 = .ok (.iinc 5 1, 3) := dk_132 5 1 (dk_at dksX4_element_9 21 rfl rfl)
theorem dX4_element_238 : decode cX4_element 238 = .ok (.goto (-16), 3) := dk_167 255 240 (dk_at dksX4_element_10 0 rfl rfl)
theorem dX4_element_241 : decode cX4_element 241 = .ok (.return_, 1) := dk_177 (dk_at dksX4_element_10 3 rfl rfl)
abbrev cX4_isKind : ByteArray := prog_21_method_33_code
def yX4_isKind : MethodName := ⟨RX4, "isKind", "(I)Z"⟩
def dkwX4_isKind_1 : List UInt8 := [27, 16, 87, 159, 0, 9, 27, 16, 83, 160, 0, 7, 4, 167, 0, 4, 3, 172]
abbrev dktX4_isKind_1 : List UInt8 := dkwX4_isKind_1 ++ []
def dkwX4_isKind_0 : List UInt8 := [27, 16, 100, 159, 0, 33, 27, 16, 119, 159, 0, 27, 27, 16, 115, 159, 0, 21, 27, 16, 68, 159, 0, 15]
abbrev dktX4_isKind_0 : List UInt8 := dkwX4_isKind_0 ++ dktX4_isKind_1
theorem dksX4_isKind_0 : cX4_isKind.data.toList.drop 0 = dktX4_isKind_0 := by decide +kernel
theorem dksX4_isKind_1 : cX4_isKind.data.toList.drop 24 = dktX4_isKind_1 := dk_seg dksX4_isKind_0 24 rfl rfl
theorem dX4_isKind_0 : decode cX4_isKind 0 = .ok (.iload_n 1, 1) := dk_27 (dk_at dksX4_isKind_0 0 rfl rfl)
theorem dX4_isKind_1 : decode cX4_isKind 1 = .ok (.bipush 100, 2) := dk_16 100 (dk_at dksX4_isKind_0 1 rfl rfl)
theorem dX4_isKind_3 : decode cX4_isKind 3 = .ok (.if_icmp .eq 33, 3) := dk_159 0 33 (dk_at dksX4_isKind_0 3 rfl rfl)
theorem dX4_isKind_6 : decode cX4_isKind 6 = .ok (.iload_n 1, 1) := dk_27 (dk_at dksX4_isKind_0 6 rfl rfl)
theorem dX4_isKind_7 : decode cX4_isKind 7 = .ok (.bipush 119, 2) := dk_16 119 (dk_at dksX4_isKind_0 7 rfl rfl)
theorem dX4_isKind_9 : decode cX4_isKind 9 = .ok (.if_icmp .eq 27, 3) := dk_159 0 27 (dk_at dksX4_isKind_0 9 rfl rfl)
theorem dX4_isKind_12 : decode cX4_isKind 12 = .ok (.iload_n 1, 1) := dk_27 (dk_at dksX4_isKind_0 12 rfl rfl)
theorem dX4_isKind_13 : decode cX4_isKind 13 = .ok (.bipush 115, 2) := dk_16 115 (dk_at dksX4_isKind_0 13 rfl rfl)
theorem dX4_isKind_15 : decode cX4_isKind 15 = .ok (.if_icmp .eq 21, 3) := dk_159 0 21 (dk_at dksX4_isKind_0 15 rfl rfl)
theorem dX4_isKind_18 : decode cX4_isKind 18 = .ok (.iload_n 1, 1) := dk_27 (dk_at dksX4_isKind_0 18 rfl rfl)
theorem dX4_isKind_19 : decode cX4_isKind 19 = .ok (.bipush 68, 2) := dk_16 68 (dk_at dksX4_isKind_0 19 rfl rfl)
theorem dX4_isKind_21 : decode cX4_isKind 21 = .ok (.if_icmp .eq 15, 3) := dk_159 0 15 (dk_at dksX4_isKind_0 21 rfl rfl)
theorem dX4_isKind_24 : decode cX4_isKind 24 = .ok (.iload_n 1, 1) := dk_27 (dk_at dksX4_isKind_1 0 rfl rfl)
theorem dX4_isKind_25 : decode cX4_isKind 25 = .ok (.bipush 87, 2) := dk_16 87 (dk_at dksX4_isKind_1 1 rfl rfl)
theorem dX4_isKind_27 : decode cX4_isKind 27 = .ok (.if_icmp .eq 9, 3) := dk_159 0 9 (dk_at dksX4_isKind_1 3 rfl rfl)
theorem dX4_isKind_30 : decode cX4_isKind 30 = .ok (.iload_n 1, 1) := dk_27 (dk_at dksX4_isKind_1 6 rfl rfl)
theorem dX4_isKind_31 : decode cX4_isKind 31 = .ok (.bipush 83, 2) := dk_16 83 (dk_at dksX4_isKind_1 7 rfl rfl)
theorem dX4_isKind_33 : decode cX4_isKind 33 = .ok (.if_icmp .ne 7, 3) := dk_160 0 7 (dk_at dksX4_isKind_1 9 rfl rfl)
theorem dX4_isKind_36 : decode cX4_isKind 36 = .ok (.iconst 1, 1) := dk_4 (dk_at dksX4_isKind_1 12 rfl rfl)
theorem dX4_isKind_37 : decode cX4_isKind 37 = .ok (.goto 4, 3) := dk_167 0 4 (dk_at dksX4_isKind_1 13 rfl rfl)
theorem dX4_isKind_40 : decode cX4_isKind 40 = .ok (.iconst 0, 1) := dk_3 (dk_at dksX4_isKind_1 16 rfl rfl)
theorem dX4_isKind_41 : decode cX4_isKind 41 = .ok (.ireturn, 1) := dk_172 (dk_at dksX4_isKind_1 17 rfl rfl)
abbrev cX4_putKind : ByteArray := prog_21_method_30_code
def yX4_putKind : MethodName := ⟨RX4, "putKind", "(I)V"⟩
def dkwX4_putKind_3 : List UInt8 := [177]
abbrev dktX4_putKind_3 : List UInt8 := dkwX4_putKind_3 ++ []
def dkwX4_putKind_2 : List UInt8 := [27, 28, 160, 0, 7, 4, 167, 0, 4, 3, 160, 0, 8, 42, 29, 182, 0, 198, 132, 3, 1, 167, 255, 194]
abbrev dktX4_putKind_2 : List UInt8 := dkwX4_putKind_2 ++ dktX4_putKind_3
def dkwX4_putKind_1 : List UInt8 := [167, 0, 20, 28, 16, 119, 160, 0, 10, 29, 184, 0, 190, 167, 0, 7, 29, 184, 0, 193, 54, 4, 21, 4]
abbrev dktX4_putKind_1 : List UInt8 := dkwX4_putKind_1 ++ dktX4_putKind_2
def dkwX4_putKind_0 : List UInt8 := [27, 16, 32, 128, 61, 3, 62, 29, 17, 1, 0, 162, 0, 61, 28, 16, 100, 160, 0, 10, 29, 184, 0, 156]
abbrev dktX4_putKind_0 : List UInt8 := dkwX4_putKind_0 ++ dktX4_putKind_1
theorem dksX4_putKind_0 : cX4_putKind.data.toList.drop 0 = dktX4_putKind_0 := by decide +kernel
theorem dksX4_putKind_1 : cX4_putKind.data.toList.drop 24 = dktX4_putKind_1 := dk_seg dksX4_putKind_0 24 rfl rfl
theorem dksX4_putKind_2 : cX4_putKind.data.toList.drop 48 = dktX4_putKind_2 := dk_seg dksX4_putKind_1 24 rfl rfl
theorem dksX4_putKind_3 : cX4_putKind.data.toList.drop 72 = dktX4_putKind_3 := dk_seg dksX4_putKind_2 24 rfl rfl
theorem dX4_putKind_0 : decode cX4_putKind 0 = .ok (.iload_n 1, 1) := dk_27 (dk_at dksX4_putKind_0 0 rfl rfl)
theorem dX4_putKind_1 : decode cX4_putKind 1 = .ok (.bipush 32, 2) := dk_16 32 (dk_at dksX4_putKind_0 1 rfl rfl)
theorem dX4_putKind_3 : decode cX4_putKind 3 = .ok (.ior, 1) := dk_128 (dk_at dksX4_putKind_0 3 rfl rfl)
theorem dX4_putKind_4 : decode cX4_putKind 4 = .ok (.istore_n 2, 1) := dk_61 (dk_at dksX4_putKind_0 4 rfl rfl)
theorem dX4_putKind_5 : decode cX4_putKind 5 = .ok (.iconst 0, 1) := dk_3 (dk_at dksX4_putKind_0 5 rfl rfl)
theorem dX4_putKind_6 : decode cX4_putKind 6 = .ok (.istore_n 3, 1) := dk_62 (dk_at dksX4_putKind_0 6 rfl rfl)
theorem dX4_putKind_7 : decode cX4_putKind 7 = .ok (.iload_n 3, 1) := dk_29 (dk_at dksX4_putKind_0 7 rfl rfl)
theorem dX4_putKind_8 : decode cX4_putKind 8 = .ok (.sipush 256, 3) := dk_17 1 0 (dk_at dksX4_putKind_0 8 rfl rfl)
theorem dX4_putKind_11 : decode cX4_putKind 11 = .ok (.if_icmp .ge 61, 3) := dk_162 0 61 (dk_at dksX4_putKind_0 11 rfl rfl)
theorem dX4_putKind_14 : decode cX4_putKind 14 = .ok (.iload_n 2, 1) := dk_28 (dk_at dksX4_putKind_0 14 rfl rfl)
theorem dX4_putKind_15 : decode cX4_putKind 15 = .ok (.bipush 100, 2) := dk_16 100 (dk_at dksX4_putKind_0 15 rfl rfl)
theorem dX4_putKind_17 : decode cX4_putKind 17 = .ok (.if_icmp .ne 10, 3) := dk_160 0 10 (dk_at dksX4_putKind_0 17 rfl rfl)
theorem dX4_putKind_20 : decode cX4_putKind 20 = .ok (.iload_n 3, 1) := dk_29 (dk_at dksX4_putKind_0 20 rfl rfl)
theorem dX4_putKind_21 : decode cX4_putKind 21 = .ok (.invokestatic 156, 3) := dk_184 0 156 (dk_at dksX4_putKind_0 21 rfl rfl)
theorem dX4_putKind_24 : decode cX4_putKind 24 = .ok (.goto 20, 3) := dk_167 0 20 (dk_at dksX4_putKind_1 0 rfl rfl)
theorem dX4_putKind_27 : decode cX4_putKind 27 = .ok (.iload_n 2, 1) := dk_28 (dk_at dksX4_putKind_1 3 rfl rfl)
theorem dX4_putKind_28 : decode cX4_putKind 28 = .ok (.bipush 119, 2) := dk_16 119 (dk_at dksX4_putKind_1 4 rfl rfl)
theorem dX4_putKind_30 : decode cX4_putKind 30 = .ok (.if_icmp .ne 10, 3) := dk_160 0 10 (dk_at dksX4_putKind_1 6 rfl rfl)
theorem dX4_putKind_33 : decode cX4_putKind 33 = .ok (.iload_n 3, 1) := dk_29 (dk_at dksX4_putKind_1 9 rfl rfl)
theorem dX4_putKind_34 : decode cX4_putKind 34 = .ok (.invokestatic 190, 3) := dk_184 0 190 (dk_at dksX4_putKind_1 10 rfl rfl)
theorem dX4_putKind_37 : decode cX4_putKind 37 = .ok (.goto 7, 3) := dk_167 0 7 (dk_at dksX4_putKind_1 13 rfl rfl)
theorem dX4_putKind_40 : decode cX4_putKind 40 = .ok (.iload_n 3, 1) := dk_29 (dk_at dksX4_putKind_1 16 rfl rfl)
theorem dX4_putKind_41 : decode cX4_putKind 41 = .ok (.invokestatic 193, 3) := dk_184 0 193 (dk_at dksX4_putKind_1 17 rfl rfl)
theorem dX4_putKind_44 : decode cX4_putKind 44 = .ok (.istore 4, 2) := dk_54 4 (dk_at dksX4_putKind_1 20 rfl rfl)
theorem dX4_putKind_46 : decode cX4_putKind 46 = .ok (.iload 4, 2) := dk_21 4 (dk_at dksX4_putKind_1 22 rfl rfl)
theorem dX4_putKind_48 : decode cX4_putKind 48 = .ok (.iload_n 1, 1) := dk_27 (dk_at dksX4_putKind_2 0 rfl rfl)
theorem dX4_putKind_49 : decode cX4_putKind 49 = .ok (.iload_n 2, 1) := dk_28 (dk_at dksX4_putKind_2 1 rfl rfl)
theorem dX4_putKind_50 : decode cX4_putKind 50 = .ok (.if_icmp .ne 7, 3) := dk_160 0 7 (dk_at dksX4_putKind_2 2 rfl rfl)
theorem dX4_putKind_53 : decode cX4_putKind 53 = .ok (.iconst 1, 1) := dk_4 (dk_at dksX4_putKind_2 5 rfl rfl)
theorem dX4_putKind_54 : decode cX4_putKind 54 = .ok (.goto 4, 3) := dk_167 0 4 (dk_at dksX4_putKind_2 6 rfl rfl)
theorem dX4_putKind_57 : decode cX4_putKind 57 = .ok (.iconst 0, 1) := dk_3 (dk_at dksX4_putKind_2 9 rfl rfl)
theorem dX4_putKind_58 : decode cX4_putKind 58 = .ok (.if_icmp .ne 8, 3) := dk_160 0 8 (dk_at dksX4_putKind_2 10 rfl rfl)
theorem dX4_putKind_61 : decode cX4_putKind 61 = .ok (.aload_n 0, 1) := dk_42 (dk_at dksX4_putKind_2 13 rfl rfl)
theorem dX4_putKind_62 : decode cX4_putKind 62 = .ok (.iload_n 3, 1) := dk_29 (dk_at dksX4_putKind_2 14 rfl rfl)
theorem dX4_putKind_63 : decode cX4_putKind 63 = .ok (.invokevirtual 198, 3) := dk_182 0 198 (dk_at dksX4_putKind_2 15 rfl rfl)
theorem dX4_putKind_66 : decode cX4_putKind 66 = .ok (.iinc 3 1, 3) := dk_132 3 1 (dk_at dksX4_putKind_2 18 rfl rfl)
theorem dX4_putKind_69 : decode cX4_putKind 69 = .ok (.goto (-62), 3) := dk_167 255 194 (dk_at dksX4_putKind_2 21 rfl rfl)
theorem dX4_putKind_72 : decode cX4_putKind 72 = .ok (.return_, 1) := dk_177 (dk_at dksX4_putKind_3 0 rfl rfl)
abbrev cX4_isDigit : ByteArray := prog_21_method_18_code
def yX4_isDigit : MethodName := ⟨RX4, "isDigit", "(I)Z"⟩
def dkwX4_isDigit_0 : List UInt8 := [26, 16, 48, 161, 0, 13, 26, 16, 57, 163, 0, 7, 4, 167, 0, 4, 3, 172]
abbrev dktX4_isDigit_0 : List UInt8 := dkwX4_isDigit_0 ++ []
theorem dksX4_isDigit_0 : cX4_isDigit.data.toList.drop 0 = dktX4_isDigit_0 := by decide +kernel
theorem dX4_isDigit_0 : decode cX4_isDigit 0 = .ok (.iload_n 0, 1) := dk_26 (dk_at dksX4_isDigit_0 0 rfl rfl)
theorem dX4_isDigit_1 : decode cX4_isDigit 1 = .ok (.bipush 48, 2) := dk_16 48 (dk_at dksX4_isDigit_0 1 rfl rfl)
theorem dX4_isDigit_3 : decode cX4_isDigit 3 = .ok (.if_icmp .lt 13, 3) := dk_161 0 13 (dk_at dksX4_isDigit_0 3 rfl rfl)
theorem dX4_isDigit_6 : decode cX4_isDigit 6 = .ok (.iload_n 0, 1) := dk_26 (dk_at dksX4_isDigit_0 6 rfl rfl)
theorem dX4_isDigit_7 : decode cX4_isDigit 7 = .ok (.bipush 57, 2) := dk_16 57 (dk_at dksX4_isDigit_0 7 rfl rfl)
theorem dX4_isDigit_9 : decode cX4_isDigit 9 = .ok (.if_icmp .gt 7, 3) := dk_163 0 7 (dk_at dksX4_isDigit_0 9 rfl rfl)
theorem dX4_isDigit_12 : decode cX4_isDigit 12 = .ok (.iconst 1, 1) := dk_4 (dk_at dksX4_isDigit_0 12 rfl rfl)
theorem dX4_isDigit_13 : decode cX4_isDigit 13 = .ok (.goto 4, 3) := dk_167 0 4 (dk_at dksX4_isDigit_0 13 rfl rfl)
theorem dX4_isDigit_16 : decode cX4_isDigit 16 = .ok (.iconst 0, 1) := dk_3 (dk_at dksX4_isDigit_0 16 rfl rfl)
theorem dX4_isDigit_17 : decode cX4_isDigit 17 = .ok (.ireturn, 1) := dk_172 (dk_at dksX4_isDigit_0 17 rfl rfl)
abbrev cX4_isWord : ByteArray := prog_21_method_27_code
def yX4_isWord : MethodName := ⟨RX4, "isWord", "(I)Z"⟩
def dkwX4_isWord_1 : List UInt8 := [161, 0, 9, 26, 16, 90, 164, 0, 9, 26, 16, 95, 160, 0, 7, 4, 167, 0, 4, 3, 172]
abbrev dktX4_isWord_1 : List UInt8 := dkwX4_isWord_1 ++ []
def dkwX4_isWord_0 : List UInt8 := [26, 184, 0, 156, 154, 0, 33, 26, 16, 97, 161, 0, 9, 26, 16, 122, 164, 0, 21, 26, 16, 65]
abbrev dktX4_isWord_0 : List UInt8 := dkwX4_isWord_0 ++ dktX4_isWord_1
theorem dksX4_isWord_0 : cX4_isWord.data.toList.drop 0 = dktX4_isWord_0 := by decide +kernel
theorem dksX4_isWord_1 : cX4_isWord.data.toList.drop 22 = dktX4_isWord_1 := dk_seg dksX4_isWord_0 22 rfl rfl
theorem dX4_isWord_0 : decode cX4_isWord 0 = .ok (.iload_n 0, 1) := dk_26 (dk_at dksX4_isWord_0 0 rfl rfl)
theorem dX4_isWord_1 : decode cX4_isWord 1 = .ok (.invokestatic 156, 3) := dk_184 0 156 (dk_at dksX4_isWord_0 1 rfl rfl)
theorem dX4_isWord_4 : decode cX4_isWord 4 = .ok (.ifCond .ne 33, 3) := dk_154 0 33 (dk_at dksX4_isWord_0 4 rfl rfl)
theorem dX4_isWord_7 : decode cX4_isWord 7 = .ok (.iload_n 0, 1) := dk_26 (dk_at dksX4_isWord_0 7 rfl rfl)
theorem dX4_isWord_8 : decode cX4_isWord 8 = .ok (.bipush 97, 2) := dk_16 97 (dk_at dksX4_isWord_0 8 rfl rfl)
theorem dX4_isWord_10 : decode cX4_isWord 10 = .ok (.if_icmp .lt 9, 3) := dk_161 0 9 (dk_at dksX4_isWord_0 10 rfl rfl)
theorem dX4_isWord_13 : decode cX4_isWord 13 = .ok (.iload_n 0, 1) := dk_26 (dk_at dksX4_isWord_0 13 rfl rfl)
theorem dX4_isWord_14 : decode cX4_isWord 14 = .ok (.bipush 122, 2) := dk_16 122 (dk_at dksX4_isWord_0 14 rfl rfl)
theorem dX4_isWord_16 : decode cX4_isWord 16 = .ok (.if_icmp .le 21, 3) := dk_164 0 21 (dk_at dksX4_isWord_0 16 rfl rfl)
theorem dX4_isWord_19 : decode cX4_isWord 19 = .ok (.iload_n 0, 1) := dk_26 (dk_at dksX4_isWord_0 19 rfl rfl)
theorem dX4_isWord_20 : decode cX4_isWord 20 = .ok (.bipush 65, 2) := dk_16 65 (dk_at dksX4_isWord_0 20 rfl rfl)
theorem dX4_isWord_22 : decode cX4_isWord 22 = .ok (.if_icmp .lt 9, 3) := dk_161 0 9 (dk_at dksX4_isWord_1 0 rfl rfl)
theorem dX4_isWord_25 : decode cX4_isWord 25 = .ok (.iload_n 0, 1) := dk_26 (dk_at dksX4_isWord_1 3 rfl rfl)
theorem dX4_isWord_26 : decode cX4_isWord 26 = .ok (.bipush 90, 2) := dk_16 90 (dk_at dksX4_isWord_1 4 rfl rfl)
theorem dX4_isWord_28 : decode cX4_isWord 28 = .ok (.if_icmp .le 9, 3) := dk_164 0 9 (dk_at dksX4_isWord_1 6 rfl rfl)
theorem dX4_isWord_31 : decode cX4_isWord 31 = .ok (.iload_n 0, 1) := dk_26 (dk_at dksX4_isWord_1 9 rfl rfl)
theorem dX4_isWord_32 : decode cX4_isWord 32 = .ok (.bipush 95, 2) := dk_16 95 (dk_at dksX4_isWord_1 10 rfl rfl)
theorem dX4_isWord_34 : decode cX4_isWord 34 = .ok (.if_icmp .ne 7, 3) := dk_160 0 7 (dk_at dksX4_isWord_1 12 rfl rfl)
theorem dX4_isWord_37 : decode cX4_isWord 37 = .ok (.iconst 1, 1) := dk_4 (dk_at dksX4_isWord_1 15 rfl rfl)
theorem dX4_isWord_38 : decode cX4_isWord 38 = .ok (.goto 4, 3) := dk_167 0 4 (dk_at dksX4_isWord_1 16 rfl rfl)
theorem dX4_isWord_41 : decode cX4_isWord 41 = .ok (.iconst 0, 1) := dk_3 (dk_at dksX4_isWord_1 19 rfl rfl)
theorem dX4_isWord_42 : decode cX4_isWord 42 = .ok (.ireturn, 1) := dk_172 (dk_at dksX4_isWord_1 20 rfl rfl)
abbrev cX4_put : ByteArray := prog_21_method_29_code
def yX4_put : MethodName := ⟨RX4, "put", "(I)V"⟩
def dkwX4_put_0 : List UInt8 := [42, 180, 0, 7, 27, 16, 6, 122, 92, 47, 10, 27, 16, 63, 126, 121, 129, 80, 177]
abbrev dktX4_put_0 : List UInt8 := dkwX4_put_0 ++ []
theorem dksX4_put_0 : cX4_put.data.toList.drop 0 = dktX4_put_0 := by decide +kernel
theorem dX4_put_0 : decode cX4_put 0 = .ok (.aload_n 0, 1) := dk_42 (dk_at dksX4_put_0 0 rfl rfl)
theorem dX4_put_1 : decode cX4_put 1 = .ok (.getfield 7, 3) := dk_180 0 7 (dk_at dksX4_put_0 1 rfl rfl)
theorem dX4_put_4 : decode cX4_put 4 = .ok (.iload_n 1, 1) := dk_27 (dk_at dksX4_put_0 4 rfl rfl)
theorem dX4_put_5 : decode cX4_put 5 = .ok (.bipush 6, 2) := dk_16 6 (dk_at dksX4_put_0 5 rfl rfl)
theorem dX4_put_7 : decode cX4_put 7 = .ok (.ishr, 1) := dk_122 (dk_at dksX4_put_0 7 rfl rfl)
theorem dX4_put_8 : decode cX4_put 8 = .ok (.dup2, 1) := dk_92 (dk_at dksX4_put_0 8 rfl rfl)
theorem dX4_put_9 : decode cX4_put 9 = .ok (.laload, 1) := dk_47 (dk_at dksX4_put_0 9 rfl rfl)
theorem dX4_put_10 : decode cX4_put 10 = .ok (.lconst 1, 1) := dk_10 (dk_at dksX4_put_0 10 rfl rfl)
theorem dX4_put_11 : decode cX4_put 11 = .ok (.iload_n 1, 1) := dk_27 (dk_at dksX4_put_0 11 rfl rfl)
theorem dX4_put_12 : decode cX4_put 12 = .ok (.bipush 63, 2) := dk_16 63 (dk_at dksX4_put_0 12 rfl rfl)
theorem dX4_put_14 : decode cX4_put 14 = .ok (.iand, 1) := dk_126 (dk_at dksX4_put_0 14 rfl rfl)
theorem dX4_put_15 : decode cX4_put 15 = .ok (.lshl, 1) := dk_121 (dk_at dksX4_put_0 15 rfl rfl)
theorem dX4_put_16 : decode cX4_put 16 = .ok (.lor, 1) := dk_129 (dk_at dksX4_put_0 16 rfl rfl)
theorem dX4_put_17 : decode cX4_put 17 = .ok (.lastore, 1) := dk_80 (dk_at dksX4_put_0 17 rfl rfl)
theorem dX4_put_18 : decode cX4_put 18 = .ok (.return_, 1) := dk_177 (dk_at dksX4_put_0 18 rfl rfl)
abbrev cX4_itself : ByteArray := prog_21_method_35_code
def yX4_itself : MethodName := ⟨RX4, "itself", "(I)V"⟩
def dkwX4_itself_1 : List UInt8 := [153, 0, 8, 42, 182, 0, 48, 191, 42, 89, 180, 0, 21, 4, 96, 181, 0, 21, 177]
abbrev dktX4_itself_1 : List UInt8 := dkwX4_itself_1 ++ []
def dkwX4_itself_0 : List UInt8 := [27, 16, 32, 161, 0, 23, 27, 16, 126, 163, 0, 17, 27, 184, 0, 224, 154, 0, 10, 27, 184, 0, 156]
abbrev dktX4_itself_0 : List UInt8 := dkwX4_itself_0 ++ dktX4_itself_1
theorem dksX4_itself_0 : cX4_itself.data.toList.drop 0 = dktX4_itself_0 := by decide +kernel
theorem dksX4_itself_1 : cX4_itself.data.toList.drop 23 = dktX4_itself_1 := dk_seg dksX4_itself_0 23 rfl rfl
theorem dX4_itself_0 : decode cX4_itself 0 = .ok (.iload_n 1, 1) := dk_27 (dk_at dksX4_itself_0 0 rfl rfl)
theorem dX4_itself_1 : decode cX4_itself 1 = .ok (.bipush 32, 2) := dk_16 32 (dk_at dksX4_itself_0 1 rfl rfl)
theorem dX4_itself_3 : decode cX4_itself 3 = .ok (.if_icmp .lt 23, 3) := dk_161 0 23 (dk_at dksX4_itself_0 3 rfl rfl)
theorem dX4_itself_6 : decode cX4_itself 6 = .ok (.iload_n 1, 1) := dk_27 (dk_at dksX4_itself_0 6 rfl rfl)
theorem dX4_itself_7 : decode cX4_itself 7 = .ok (.bipush 126, 2) := dk_16 126 (dk_at dksX4_itself_0 7 rfl rfl)
theorem dX4_itself_9 : decode cX4_itself 9 = .ok (.if_icmp .gt 17, 3) := dk_163 0 17 (dk_at dksX4_itself_0 9 rfl rfl)
theorem dX4_itself_12 : decode cX4_itself 12 = .ok (.iload_n 1, 1) := dk_27 (dk_at dksX4_itself_0 12 rfl rfl)
theorem dX4_itself_13 : decode cX4_itself 13 = .ok (.invokestatic 224, 3) := dk_184 0 224 (dk_at dksX4_itself_0 13 rfl rfl)
theorem dX4_itself_16 : decode cX4_itself 16 = .ok (.ifCond .ne 10, 3) := dk_154 0 10 (dk_at dksX4_itself_0 16 rfl rfl)
theorem dX4_itself_19 : decode cX4_itself 19 = .ok (.iload_n 1, 1) := dk_27 (dk_at dksX4_itself_0 19 rfl rfl)
theorem dX4_itself_20 : decode cX4_itself 20 = .ok (.invokestatic 156, 3) := dk_184 0 156 (dk_at dksX4_itself_0 20 rfl rfl)
theorem dX4_itself_23 : decode cX4_itself 23 = .ok (.ifCond .eq 8, 3) := dk_153 0 8 (dk_at dksX4_itself_1 0 rfl rfl)
theorem dX4_itself_26 : decode cX4_itself 26 = .ok (.aload_n 0, 1) := dk_42 (dk_at dksX4_itself_1 3 rfl rfl)
theorem dX4_itself_27 : decode cX4_itself 27 = .ok (.invokevirtual 48, 3) := dk_182 0 48 (dk_at dksX4_itself_1 4 rfl rfl)
theorem dX4_itself_30 : decode cX4_itself 30 = .ok (.athrow, 1) := dk_191 (dk_at dksX4_itself_1 7 rfl rfl)
theorem dX4_itself_31 : decode cX4_itself 31 = .ok (.aload_n 0, 1) := dk_42 (dk_at dksX4_itself_1 8 rfl rfl)
theorem dX4_itself_32 : decode cX4_itself 32 = .ok (.dup, 1) := dk_89 (dk_at dksX4_itself_1 9 rfl rfl)
theorem dX4_itself_33 : decode cX4_itself 33 = .ok (.getfield 21, 3) := dk_180 0 21 (dk_at dksX4_itself_1 10 rfl rfl)
theorem dX4_itself_36 : decode cX4_itself 36 = .ok (.iconst 1, 1) := dk_4 (dk_at dksX4_itself_1 13 rfl rfl)
theorem dX4_itself_37 : decode cX4_itself 37 = .ok (.iadd, 1) := dk_96 (dk_at dksX4_itself_1 14 rfl rfl)
theorem dX4_itself_38 : decode cX4_itself 38 = .ok (.putfield 21, 3) := dk_181 0 21 (dk_at dksX4_itself_1 15 rfl rfl)
theorem dX4_itself_41 : decode cX4_itself 41 = .ok (.return_, 1) := dk_177 (dk_at dksX4_itself_1 18 rfl rfl)
abbrev cX4_isLetter : ByteArray := prog_21_method_28_code
def yX4_isLetter : MethodName := ⟨RX4, "isLette\x72", "(I)Z"⟩
def dkwX4_isLetter_1 : List UInt8 := [3, 172]
abbrev dktX4_isLetter_1 : List UInt8 := dkwX4_isLetter_1 ++ []
def dkwX4_isLetter_0 : List UInt8 := [26, 184, 0, 190, 153, 0, 20, 26, 184, 0, 156, 154, 0, 13, 26, 16, 95, 159, 0, 7, 4, 167, 0, 4]
abbrev dktX4_isLetter_0 : List UInt8 := dkwX4_isLetter_0 ++ dktX4_isLetter_1
theorem dksX4_isLetter_0 : cX4_isLetter.data.toList.drop 0 = dktX4_isLetter_0 := by decide +kernel
theorem dksX4_isLetter_1 : cX4_isLetter.data.toList.drop 24 = dktX4_isLetter_1 := dk_seg dksX4_isLetter_0 24 rfl rfl
theorem dX4_isLetter_0 : decode cX4_isLetter 0 = .ok (.iload_n 0, 1) := dk_26 (dk_at dksX4_isLetter_0 0 rfl rfl)
theorem dX4_isLetter_1 : decode cX4_isLetter 1 = .ok (.invokestatic 190, 3) := dk_184 0 190 (dk_at dksX4_isLetter_0 1 rfl rfl)
theorem dX4_isLetter_4 : decode cX4_isLetter 4 = .ok (.ifCond .eq 20, 3) := dk_153 0 20 (dk_at dksX4_isLetter_0 4 rfl rfl)
theorem dX4_isLetter_7 : decode cX4_isLetter 7 = .ok (.iload_n 0, 1) := dk_26 (dk_at dksX4_isLetter_0 7 rfl rfl)
theorem dX4_isLetter_8 : decode cX4_isLetter 8 = .ok (.invokestatic 156, 3) := dk_184 0 156 (dk_at dksX4_isLetter_0 8 rfl rfl)
theorem dX4_isLetter_11 : decode cX4_isLetter 11 = .ok (.ifCond .ne 13, 3) := dk_154 0 13 (dk_at dksX4_isLetter_0 11 rfl rfl)
theorem dX4_isLetter_14 : decode cX4_isLetter 14 = .ok (.iload_n 0, 1) := dk_26 (dk_at dksX4_isLetter_0 14 rfl rfl)
theorem dX4_isLetter_15 : decode cX4_isLetter 15 = .ok (.bipush 95, 2) := dk_16 95 (dk_at dksX4_isLetter_0 15 rfl rfl)
theorem dX4_isLetter_17 : decode cX4_isLetter 17 = .ok (.if_icmp .eq 7, 3) := dk_159 0 7 (dk_at dksX4_isLetter_0 17 rfl rfl)
theorem dX4_isLetter_20 : decode cX4_isLetter 20 = .ok (.iconst 1, 1) := dk_4 (dk_at dksX4_isLetter_0 20 rfl rfl)
theorem dX4_isLetter_21 : decode cX4_isLetter 21 = .ok (.goto 4, 3) := dk_167 0 4 (dk_at dksX4_isLetter_0 21 rfl rfl)
theorem dX4_isLetter_24 : decode cX4_isLetter 24 = .ok (.iconst 0, 1) := dk_3 (dk_at dksX4_isLetter_1 0 rfl rfl)
theorem dX4_isLetter_25 : decode cX4_isLetter 25 = .ok (.ireturn, 1) := dk_172 (dk_at dksX4_isLetter_1 1 rfl rfl)
abbrev cX4_keepSet : ByteArray := prog_21_method_32_code
def yX4_keepSet : MethodName := ⟨RX4, "keepSet", "(Z)I"⟩
def dkwX4_keepSet_3 : List UInt8 := [180, 0, 203, 3, 182, 0, 87, 61, 42, 180, 0, 33, 89, 180, 0, 203, 4, 96, 181, 0, 203, 4, 172]
abbrev dktX4_keepSet_3 : List UInt8 := dkwX4_keepSet_3 ++ []
def dkwX4_keepSet_2 : List UInt8 := [167, 0, 9, 42, 180, 0, 7, 28, 47, 80, 132, 2, 1, 167, 255, 206, 42, 5, 42, 180, 0, 33]
abbrev dktX4_keepSet_2 : List UInt8 := dkwX4_keepSet_2 ++ dktX4_keepSet_3
def dkwX4_keepSet_1 : List UInt8 := [180, 0, 33, 180, 0, 203, 104, 28, 96, 27, 153, 0, 16, 42, 180, 0, 7, 28, 47, 20, 0, 206, 131]
abbrev dktX4_keepSet_1 : List UInt8 := dkwX4_keepSet_1 ++ dktX4_keepSet_2
def dkwX4_keepSet_0 : List UInt8 := [42, 180, 0, 37, 153, 0, 85, 3, 61, 28, 7, 162, 0, 51, 42, 180, 0, 33, 180, 0, 201, 7, 42]
abbrev dktX4_keepSet_0 : List UInt8 := dkwX4_keepSet_0 ++ dktX4_keepSet_1
theorem dksX4_keepSet_0 : cX4_keepSet.data.toList.drop 0 = dktX4_keepSet_0 := by decide +kernel
theorem dksX4_keepSet_1 : cX4_keepSet.data.toList.drop 23 = dktX4_keepSet_1 := dk_seg dksX4_keepSet_0 23 rfl rfl
theorem dksX4_keepSet_2 : cX4_keepSet.data.toList.drop 46 = dktX4_keepSet_2 := dk_seg dksX4_keepSet_1 23 rfl rfl
theorem dksX4_keepSet_3 : cX4_keepSet.data.toList.drop 68 = dktX4_keepSet_3 := dk_seg dksX4_keepSet_2 22 rfl rfl
theorem dX4_keepSet_0 : decode cX4_keepSet 0 = .ok (.aload_n 0, 1) := dk_42 (dk_at dksX4_keepSet_0 0 rfl rfl)
theorem dX4_keepSet_1 : decode cX4_keepSet 1 = .ok (.getfield 37, 3) := dk_180 0 37 (dk_at dksX4_keepSet_0 1 rfl rfl)
theorem dX4_keepSet_4 : decode cX4_keepSet 4 = .ok (.ifCond .eq 85, 3) := dk_153 0 85 (dk_at dksX4_keepSet_0 4 rfl rfl)
theorem dX4_keepSet_7 : decode cX4_keepSet 7 = .ok (.iconst 0, 1) := dk_3 (dk_at dksX4_keepSet_0 7 rfl rfl)
theorem dX4_keepSet_8 : decode cX4_keepSet 8 = .ok (.istore_n 2, 1) := dk_61 (dk_at dksX4_keepSet_0 8 rfl rfl)
theorem dX4_keepSet_9 : decode cX4_keepSet 9 = .ok (.iload_n 2, 1) := dk_28 (dk_at dksX4_keepSet_0 9 rfl rfl)
theorem dX4_keepSet_10 : decode cX4_keepSet 10 = .ok (.iconst 4, 1) := dk_7 (dk_at dksX4_keepSet_0 10 rfl rfl)
theorem dX4_keepSet_11 : decode cX4_keepSet 11 = .ok (.if_icmp .ge 51, 3) := dk_162 0 51 (dk_at dksX4_keepSet_0 11 rfl rfl)
theorem dX4_keepSet_14 : decode cX4_keepSet 14 = .ok (.aload_n 0, 1) := dk_42 (dk_at dksX4_keepSet_0 14 rfl rfl)
theorem dX4_keepSet_15 : decode cX4_keepSet 15 = .ok (.getfield 33, 3) := dk_180 0 33 (dk_at dksX4_keepSet_0 15 rfl rfl)
theorem dX4_keepSet_18 : decode cX4_keepSet 18 = .ok (.getfield 201, 3) := dk_180 0 201 (dk_at dksX4_keepSet_0 18 rfl rfl)
theorem dX4_keepSet_21 : decode cX4_keepSet 21 = .ok (.iconst 4, 1) := dk_7 (dk_at dksX4_keepSet_0 21 rfl rfl)
theorem dX4_keepSet_22 : decode cX4_keepSet 22 = .ok (.aload_n 0, 1) := dk_42 (dk_at dksX4_keepSet_0 22 rfl rfl)
theorem dX4_keepSet_23 : decode cX4_keepSet 23 = .ok (.getfield 33, 3) := dk_180 0 33 (dk_at dksX4_keepSet_1 0 rfl rfl)
theorem dX4_keepSet_26 : decode cX4_keepSet 26 = .ok (.getfield 203, 3) := dk_180 0 203 (dk_at dksX4_keepSet_1 3 rfl rfl)
theorem dX4_keepSet_29 : decode cX4_keepSet 29 = .ok (.imul, 1) := dk_104 (dk_at dksX4_keepSet_1 6 rfl rfl)
theorem dX4_keepSet_30 : decode cX4_keepSet 30 = .ok (.iload_n 2, 1) := dk_28 (dk_at dksX4_keepSet_1 7 rfl rfl)
theorem dX4_keepSet_31 : decode cX4_keepSet 31 = .ok (.iadd, 1) := dk_96 (dk_at dksX4_keepSet_1 8 rfl rfl)
theorem dX4_keepSet_32 : decode cX4_keepSet 32 = .ok (.iload_n 1, 1) := dk_27 (dk_at dksX4_keepSet_1 9 rfl rfl)
theorem dX4_keepSet_33 : decode cX4_keepSet 33 = .ok (.ifCond .eq 16, 3) := dk_153 0 16 (dk_at dksX4_keepSet_1 10 rfl rfl)
theorem dX4_keepSet_36 : decode cX4_keepSet 36 = .ok (.aload_n 0, 1) := dk_42 (dk_at dksX4_keepSet_1 13 rfl rfl)
theorem dX4_keepSet_37 : decode cX4_keepSet 37 = .ok (.getfield 7, 3) := dk_180 0 7 (dk_at dksX4_keepSet_1 14 rfl rfl)
theorem dX4_keepSet_40 : decode cX4_keepSet 40 = .ok (.iload_n 2, 1) := dk_28 (dk_at dksX4_keepSet_1 17 rfl rfl)
theorem dX4_keepSet_41 : decode cX4_keepSet 41 = .ok (.laload, 1) := dk_47 (dk_at dksX4_keepSet_1 18 rfl rfl)
theorem dX4_keepSet_42 : decode cX4_keepSet 42 = .ok (.ldc2_w 206, 3) := dk_20 0 206 (dk_at dksX4_keepSet_1 19 rfl rfl)
theorem dX4_keepSet_45 : decode cX4_keepSet 45 = .ok (.lxor, 1) := dk_131 (dk_at dksX4_keepSet_1 22 rfl rfl)
theorem dX4_keepSet_46 : decode cX4_keepSet 46 = .ok (.goto 9, 3) := dk_167 0 9 (dk_at dksX4_keepSet_2 0 rfl rfl)
theorem dX4_keepSet_49 : decode cX4_keepSet 49 = .ok (.aload_n 0, 1) := dk_42 (dk_at dksX4_keepSet_2 3 rfl rfl)
theorem dX4_keepSet_50 : decode cX4_keepSet 50 = .ok (.getfield 7, 3) := dk_180 0 7 (dk_at dksX4_keepSet_2 4 rfl rfl)
theorem dX4_keepSet_53 : decode cX4_keepSet 53 = .ok (.iload_n 2, 1) := dk_28 (dk_at dksX4_keepSet_2 7 rfl rfl)
theorem dX4_keepSet_54 : decode cX4_keepSet 54 = .ok (.laload, 1) := dk_47 (dk_at dksX4_keepSet_2 8 rfl rfl)
theorem dX4_keepSet_55 : decode cX4_keepSet 55 = .ok (.lastore, 1) := dk_80 (dk_at dksX4_keepSet_2 9 rfl rfl)
theorem dX4_keepSet_56 : decode cX4_keepSet 56 = .ok (.iinc 2 1, 3) := dk_132 2 1 (dk_at dksX4_keepSet_2 10 rfl rfl)
theorem dX4_keepSet_59 : decode cX4_keepSet 59 = .ok (.goto (-50), 3) := dk_167 255 206 (dk_at dksX4_keepSet_2 13 rfl rfl)
theorem dX4_keepSet_62 : decode cX4_keepSet 62 = .ok (.aload_n 0, 1) := dk_42 (dk_at dksX4_keepSet_2 16 rfl rfl)
theorem dX4_keepSet_63 : decode cX4_keepSet 63 = .ok (.iconst 2, 1) := dk_5 (dk_at dksX4_keepSet_2 17 rfl rfl)
theorem dX4_keepSet_64 : decode cX4_keepSet 64 = .ok (.aload_n 0, 1) := dk_42 (dk_at dksX4_keepSet_2 18 rfl rfl)
theorem dX4_keepSet_65 : decode cX4_keepSet 65 = .ok (.getfield 33, 3) := dk_180 0 33 (dk_at dksX4_keepSet_2 19 rfl rfl)
theorem dX4_keepSet_68 : decode cX4_keepSet 68 = .ok (.getfield 203, 3) := dk_180 0 203 (dk_at dksX4_keepSet_3 0 rfl rfl)
theorem dX4_keepSet_71 : decode cX4_keepSet 71 = .ok (.iconst 0, 1) := dk_3 (dk_at dksX4_keepSet_3 3 rfl rfl)
theorem dX4_keepSet_72 : decode cX4_keepSet 72 = .ok (.invokevirtual 87, 3) := dk_182 0 87 (dk_at dksX4_keepSet_3 4 rfl rfl)
theorem dX4_keepSet_75 : decode cX4_keepSet 75 = .ok (.istore_n 2, 1) := dk_61 (dk_at dksX4_keepSet_3 7 rfl rfl)
theorem dX4_keepSet_76 : decode cX4_keepSet 76 = .ok (.aload_n 0, 1) := dk_42 (dk_at dksX4_keepSet_3 8 rfl rfl)
theorem dX4_keepSet_77 : decode cX4_keepSet 77 = .ok (.getfield 33, 3) := dk_180 0 33 (dk_at dksX4_keepSet_3 9 rfl rfl)
theorem dX4_keepSet_80 : decode cX4_keepSet 80 = .ok (.dup, 1) := dk_89 (dk_at dksX4_keepSet_3 12 rfl rfl)
theorem dX4_keepSet_81 : decode cX4_keepSet 81 = .ok (.getfield 203, 3) := dk_180 0 203 (dk_at dksX4_keepSet_3 13 rfl rfl)
theorem dX4_keepSet_84 : decode cX4_keepSet 84 = .ok (.iconst 1, 1) := dk_4 (dk_at dksX4_keepSet_3 16 rfl rfl)
theorem dX4_keepSet_85 : decode cX4_keepSet 85 = .ok (.iadd, 1) := dk_96 (dk_at dksX4_keepSet_3 17 rfl rfl)
theorem dX4_keepSet_86 : decode cX4_keepSet 86 = .ok (.putfield 203, 3) := dk_181 0 203 (dk_at dksX4_keepSet_3 18 rfl rfl)
theorem dX4_keepSet_89 : decode cX4_keepSet 89 = .ok (.iconst 1, 1) := dk_4 (dk_at dksX4_keepSet_3 21 rfl rfl)
theorem dX4_keepSet_90 : decode cX4_keepSet 90 = .ok (.ireturn, 1) := dk_172 (dk_at dksX4_keepSet_3 22 rfl rfl)
abbrev cX4_escape : ByteArray := prog_21_method_34_code
def yX4_escape : MethodName := ⟨RX4, "escape", "()I"⟩
def dkwX4_escape_4 : List UInt8 := [42, 3, 27, 3, 182, 0, 87, 61, 4, 172]
abbrev dktX4_escape_4 : List UInt8 := dkwX4_escape_4 ++ []
def dkwX4_escape_3 : List UInt8 := [96, 181, 0, 21, 42, 182, 0, 211, 42, 27, 182, 0, 214, 42, 3, 182, 0, 217, 172, 42, 27, 182, 0, 221]
abbrev dktX4_escape_3 : List UInt8 := dkwX4_escape_3 ++ dktX4_escape_4
def dkwX4_escape_2 : List UInt8 := [16, 6, 3, 3, 182, 0, 87, 61, 4, 172, 42, 27, 182, 0, 208, 153, 0, 28, 42, 89, 180, 0, 21, 4]
abbrev dktX4_escape_2 : List UInt8 := dkwX4_escape_2 ++ dktX4_escape_3
def dkwX4_escape_1 : List UInt8 := [160, 0, 34, 42, 89, 180, 0, 21, 4, 96, 181, 0, 21, 42, 27, 16, 98, 160, 0, 7, 8, 167, 0, 5]
abbrev dktX4_escape_1 : List UInt8 := dkwX4_escape_1 ++ dktX4_escape_2
def dkwX4_escape_0 : List UInt8 := [42, 89, 180, 0, 21, 4, 96, 181, 0, 21, 42, 182, 0, 93, 60, 27, 16, 98, 159, 0, 9, 27, 16, 66]
abbrev dktX4_escape_0 : List UInt8 := dkwX4_escape_0 ++ dktX4_escape_1
theorem dksX4_escape_0 : cX4_escape.data.toList.drop 0 = dktX4_escape_0 := by decide +kernel
theorem dksX4_escape_1 : cX4_escape.data.toList.drop 24 = dktX4_escape_1 := dk_seg dksX4_escape_0 24 rfl rfl
theorem dksX4_escape_2 : cX4_escape.data.toList.drop 48 = dktX4_escape_2 := dk_seg dksX4_escape_1 24 rfl rfl
theorem dksX4_escape_3 : cX4_escape.data.toList.drop 72 = dktX4_escape_3 := dk_seg dksX4_escape_2 24 rfl rfl
theorem dksX4_escape_4 : cX4_escape.data.toList.drop 96 = dktX4_escape_4 := dk_seg dksX4_escape_3 24 rfl rfl
theorem dX4_escape_0 : decode cX4_escape 0 = .ok (.aload_n 0, 1) := dk_42 (dk_at dksX4_escape_0 0 rfl rfl)
theorem dX4_escape_1 : decode cX4_escape 1 = .ok (.dup, 1) := dk_89 (dk_at dksX4_escape_0 1 rfl rfl)
theorem dX4_escape_2 : decode cX4_escape 2 = .ok (.getfield 21, 3) := dk_180 0 21 (dk_at dksX4_escape_0 2 rfl rfl)
theorem dX4_escape_5 : decode cX4_escape 5 = .ok (.iconst 1, 1) := dk_4 (dk_at dksX4_escape_0 5 rfl rfl)
theorem dX4_escape_6 : decode cX4_escape 6 = .ok (.iadd, 1) := dk_96 (dk_at dksX4_escape_0 6 rfl rfl)
theorem dX4_escape_7 : decode cX4_escape 7 = .ok (.putfield 21, 3) := dk_181 0 21 (dk_at dksX4_escape_0 7 rfl rfl)
theorem dX4_escape_10 : decode cX4_escape 10 = .ok (.aload_n 0, 1) := dk_42 (dk_at dksX4_escape_0 10 rfl rfl)
theorem dX4_escape_11 : decode cX4_escape 11 = .ok (.invokevirtual 93, 3) := dk_182 0 93 (dk_at dksX4_escape_0 11 rfl rfl)
theorem dX4_escape_14 : decode cX4_escape 14 = .ok (.istore_n 1, 1) := dk_60 (dk_at dksX4_escape_0 14 rfl rfl)
theorem dX4_escape_15 : decode cX4_escape 15 = .ok (.iload_n 1, 1) := dk_27 (dk_at dksX4_escape_0 15 rfl rfl)
theorem dX4_escape_16 : decode cX4_escape 16 = .ok (.bipush 98, 2) := dk_16 98 (dk_at dksX4_escape_0 16 rfl rfl)
theorem dX4_escape_18 : decode cX4_escape 18 = .ok (.if_icmp .eq 9, 3) := dk_159 0 9 (dk_at dksX4_escape_0 18 rfl rfl)
theorem dX4_escape_21 : decode cX4_escape 21 = .ok (.iload_n 1, 1) := dk_27 (dk_at dksX4_escape_0 21 rfl rfl)
theorem dX4_escape_22 : decode cX4_escape 22 = .ok (.bipush 66, 2) := dk_16 66 (dk_at dksX4_escape_0 22 rfl rfl)
theorem dX4_escape_24 : decode cX4_escape 24 = .ok (.if_icmp .ne 34, 3) := dk_160 0 34 (dk_at dksX4_escape_1 0 rfl rfl)
theorem dX4_escape_27 : decode cX4_escape 27 = .ok (.aload_n 0, 1) := dk_42 (dk_at dksX4_escape_1 3 rfl rfl)
theorem dX4_escape_28 : decode cX4_escape 28 = .ok (.dup, 1) := dk_89 (dk_at dksX4_escape_1 4 rfl rfl)
theorem dX4_escape_29 : decode cX4_escape 29 = .ok (.getfield 21, 3) := dk_180 0 21 (dk_at dksX4_escape_1 5 rfl rfl)
theorem dX4_escape_32 : decode cX4_escape 32 = .ok (.iconst 1, 1) := dk_4 (dk_at dksX4_escape_1 8 rfl rfl)
theorem dX4_escape_33 : decode cX4_escape 33 = .ok (.iadd, 1) := dk_96 (dk_at dksX4_escape_1 9 rfl rfl)
theorem dX4_escape_34 : decode cX4_escape 34 = .ok (.putfield 21, 3) := dk_181 0 21 (dk_at dksX4_escape_1 10 rfl rfl)
theorem dX4_escape_37 : decode cX4_escape 37 = .ok (.aload_n 0, 1) := dk_42 (dk_at dksX4_escape_1 13 rfl rfl)
theorem dX4_escape_38 : decode cX4_escape 38 = .ok (.iload_n 1, 1) := dk_27 (dk_at dksX4_escape_1 14 rfl rfl)
theorem dX4_escape_39 : decode cX4_escape 39 = .ok (.bipush 98, 2) := dk_16 98 (dk_at dksX4_escape_1 15 rfl rfl)
theorem dX4_escape_41 : decode cX4_escape 41 = .ok (.if_icmp .ne 7, 3) := dk_160 0 7 (dk_at dksX4_escape_1 17 rfl rfl)
theorem dX4_escape_44 : decode cX4_escape 44 = .ok (.iconst 5, 1) := dk_8 (dk_at dksX4_escape_1 20 rfl rfl)
theorem dX4_escape_45 : decode cX4_escape 45 = .ok (.goto 5, 3) := dk_167 0 5 (dk_at dksX4_escape_1 21 rfl rfl)
theorem dX4_escape_48 : decode cX4_escape 48 = .ok (.bipush 6, 2) := dk_16 6 (dk_at dksX4_escape_2 0 rfl rfl)
theorem dX4_escape_50 : decode cX4_escape 50 = .ok (.iconst 0, 1) := dk_3 (dk_at dksX4_escape_2 2 rfl rfl)
theorem dX4_escape_51 : decode cX4_escape 51 = .ok (.iconst 0, 1) := dk_3 (dk_at dksX4_escape_2 3 rfl rfl)
theorem dX4_escape_52 : decode cX4_escape 52 = .ok (.invokevirtual 87, 3) := dk_182 0 87 (dk_at dksX4_escape_2 4 rfl rfl)
theorem dX4_escape_55 : decode cX4_escape 55 = .ok (.istore_n 2, 1) := dk_61 (dk_at dksX4_escape_2 7 rfl rfl)
theorem dX4_escape_56 : decode cX4_escape 56 = .ok (.iconst 1, 1) := dk_4 (dk_at dksX4_escape_2 8 rfl rfl)
theorem dX4_escape_57 : decode cX4_escape 57 = .ok (.ireturn, 1) := dk_172 (dk_at dksX4_escape_2 9 rfl rfl)
theorem dX4_escape_58 : decode cX4_escape 58 = .ok (.aload_n 0, 1) := dk_42 (dk_at dksX4_escape_2 10 rfl rfl)
theorem dX4_escape_59 : decode cX4_escape 59 = .ok (.iload_n 1, 1) := dk_27 (dk_at dksX4_escape_2 11 rfl rfl)
theorem dX4_escape_60 : decode cX4_escape 60 = .ok (.invokevirtual 208, 3) := dk_182 0 208 (dk_at dksX4_escape_2 12 rfl rfl)
theorem dX4_escape_63 : decode cX4_escape 63 = .ok (.ifCond .eq 28, 3) := dk_153 0 28 (dk_at dksX4_escape_2 15 rfl rfl)
theorem dX4_escape_66 : decode cX4_escape 66 = .ok (.aload_n 0, 1) := dk_42 (dk_at dksX4_escape_2 18 rfl rfl)
theorem dX4_escape_67 : decode cX4_escape 67 = .ok (.dup, 1) := dk_89 (dk_at dksX4_escape_2 19 rfl rfl)
theorem dX4_escape_68 : decode cX4_escape 68 = .ok (.getfield 21, 3) := dk_180 0 21 (dk_at dksX4_escape_2 20 rfl rfl)
theorem dX4_escape_71 : decode cX4_escape 71 = .ok (.iconst 1, 1) := dk_4 (dk_at dksX4_escape_2 23 rfl rfl)
theorem dX4_escape_72 : decode cX4_escape 72 = .ok (.iadd, 1) := dk_96 (dk_at dksX4_escape_3 0 rfl rfl)
theorem dX4_escape_73 : decode cX4_escape 73 = .ok (.putfield 21, 3) := dk_181 0 21 (dk_at dksX4_escape_3 1 rfl rfl)
theorem dX4_escape_76 : decode cX4_escape 76 = .ok (.aload_n 0, 1) := dk_42 (dk_at dksX4_escape_3 4 rfl rfl)
theorem dX4_escape_77 : decode cX4_escape 77 = .ok (.invokevirtual 211, 3) := dk_182 0 211 (dk_at dksX4_escape_3 5 rfl rfl)
theorem dX4_escape_80 : decode cX4_escape 80 = .ok (.aload_n 0, 1) := dk_42 (dk_at dksX4_escape_3 8 rfl rfl)
theorem dX4_escape_81 : decode cX4_escape 81 = .ok (.iload_n 1, 1) := dk_27 (dk_at dksX4_escape_3 9 rfl rfl)
theorem dX4_escape_82 : decode cX4_escape 82 = .ok (.invokevirtual 214, 3) := dk_182 0 214 (dk_at dksX4_escape_3 10 rfl rfl)
theorem dX4_escape_85 : decode cX4_escape 85 = .ok (.aload_n 0, 1) := dk_42 (dk_at dksX4_escape_3 13 rfl rfl)
theorem dX4_escape_86 : decode cX4_escape 86 = .ok (.iconst 0, 1) := dk_3 (dk_at dksX4_escape_3 14 rfl rfl)
theorem dX4_escape_87 : decode cX4_escape 87 = .ok (.invokevirtual 217, 3) := dk_182 0 217 (dk_at dksX4_escape_3 15 rfl rfl)
theorem dX4_escape_90 : decode cX4_escape 90 = .ok (.ireturn, 1) := dk_172 (dk_at dksX4_escape_3 18 rfl rfl)
theorem dX4_escape_91 : decode cX4_escape 91 = .ok (.aload_n 0, 1) := dk_42 (dk_at dksX4_escape_3 19 rfl rfl)
theorem dX4_escape_92 : decode cX4_escape 92 = .ok (.iload_n 1, 1) := dk_27 (dk_at dksX4_escape_3 20 rfl rfl)
theorem dX4_escape_93 : decode cX4_escape 93 = .ok (.invokevirtual 221, 3) := dk_182 0 221 (dk_at dksX4_escape_3 21 rfl rfl)
theorem dX4_escape_96 : decode cX4_escape 96 = .ok (.aload_n 0, 1) := dk_42 (dk_at dksX4_escape_4 0 rfl rfl)
theorem dX4_escape_97 : decode cX4_escape 97 = .ok (.iconst 0, 1) := dk_3 (dk_at dksX4_escape_4 1 rfl rfl)
theorem dX4_escape_98 : decode cX4_escape 98 = .ok (.iload_n 1, 1) := dk_27 (dk_at dksX4_escape_4 2 rfl rfl)
theorem dX4_escape_99 : decode cX4_escape 99 = .ok (.iconst 0, 1) := dk_3 (dk_at dksX4_escape_4 3 rfl rfl)
theorem dX4_escape_100 : decode cX4_escape 100 = .ok (.invokevirtual 87, 3) := dk_182 0 87 (dk_at dksX4_escape_4 4 rfl rfl)
theorem dX4_escape_103 : decode cX4_escape 103 = .ok (.istore_n 2, 1) := dk_61 (dk_at dksX4_escape_4 7 rfl rfl)
theorem dX4_escape_104 : decode cX4_escape 104 = .ok (.iconst 1, 1) := dk_4 (dk_at dksX4_escape_4 8 rfl rfl)
theorem dX4_escape_105 : decode cX4_escape 105 = .ok (.ireturn, 1) := dk_172 (dk_at dksX4_escape_4 9 rfl rfl)
abbrev cX4_isLoose : ByteArray := prog_21_method_15_code
def yX4_isLoose : MethodName := ⟨RX4, "isLoose", "(I)Z"⟩
def dkwX4_isLoose_3 : List UInt8 := [159, 0, 15, 42, 27, 4, 96, 182, 0, 24, 16, 66, 160, 0, 7, 4, 167, 0, 4, 3, 172]
abbrev dktX4_isLoose_3 : List UInt8 := dkwX4_isLoose_3 ++ []
def dkwX4_isLoose_2 : List UInt8 := [159, 0, 7, 4, 167, 0, 4, 3, 172, 28, 16, 92, 160, 0, 31, 42, 27, 4, 96, 182, 0, 24, 16, 98]
abbrev dktX4_isLoose_2 : List UInt8 := dkwX4_isLoose_2 ++ dktX4_isLoose_3
def dkwX4_isLoose_1 : List UInt8 := [160, 0, 33, 42, 27, 4, 96, 182, 0, 24, 16, 63, 160, 0, 19, 42, 27, 5, 96, 182, 0, 24, 16, 58]
abbrev dktX4_isLoose_1 : List UInt8 := dkwX4_isLoose_1 ++ dktX4_isLoose_2
def dkwX4_isLoose_0 : List UInt8 := [42, 27, 182, 0, 24, 61, 28, 16, 94, 159, 0, 9, 28, 16, 36, 160, 0, 5, 4, 172, 28, 16, 40]
abbrev dktX4_isLoose_0 : List UInt8 := dkwX4_isLoose_0 ++ dktX4_isLoose_1
theorem dksX4_isLoose_0 : cX4_isLoose.data.toList.drop 0 = dktX4_isLoose_0 := by decide +kernel
theorem dksX4_isLoose_1 : cX4_isLoose.data.toList.drop 23 = dktX4_isLoose_1 := dk_seg dksX4_isLoose_0 23 rfl rfl
theorem dksX4_isLoose_2 : cX4_isLoose.data.toList.drop 47 = dktX4_isLoose_2 := dk_seg dksX4_isLoose_1 24 rfl rfl
theorem dksX4_isLoose_3 : cX4_isLoose.data.toList.drop 71 = dktX4_isLoose_3 := dk_seg dksX4_isLoose_2 24 rfl rfl
theorem dX4_isLoose_0 : decode cX4_isLoose 0 = .ok (.aload_n 0, 1) := dk_42 (dk_at dksX4_isLoose_0 0 rfl rfl)
theorem dX4_isLoose_1 : decode cX4_isLoose 1 = .ok (.iload_n 1, 1) := dk_27 (dk_at dksX4_isLoose_0 1 rfl rfl)
theorem dX4_isLoose_2 : decode cX4_isLoose 2 = .ok (.invokevirtual 24, 3) := dk_182 0 24 (dk_at dksX4_isLoose_0 2 rfl rfl)
theorem dX4_isLoose_5 : decode cX4_isLoose 5 = .ok (.istore_n 2, 1) := dk_61 (dk_at dksX4_isLoose_0 5 rfl rfl)
theorem dX4_isLoose_6 : decode cX4_isLoose 6 = .ok (.iload_n 2, 1) := dk_28 (dk_at dksX4_isLoose_0 6 rfl rfl)
theorem dX4_isLoose_7 : decode cX4_isLoose 7 = .ok (.bipush 94, 2) := dk_16 94 (dk_at dksX4_isLoose_0 7 rfl rfl)
theorem dX4_isLoose_9 : decode cX4_isLoose 9 = .ok (.if_icmp .eq 9, 3) := dk_159 0 9 (dk_at dksX4_isLoose_0 9 rfl rfl)
theorem dX4_isLoose_12 : decode cX4_isLoose 12 = .ok (.iload_n 2, 1) := dk_28 (dk_at dksX4_isLoose_0 12 rfl rfl)
theorem dX4_isLoose_13 : decode cX4_isLoose 13 = .ok (.bipush 36, 2) := dk_16 36 (dk_at dksX4_isLoose_0 13 rfl rfl)
theorem dX4_isLoose_15 : decode cX4_isLoose 15 = .ok (.if_icmp .ne 5, 3) := dk_160 0 5 (dk_at dksX4_isLoose_0 15 rfl rfl)
theorem dX4_isLoose_18 : decode cX4_isLoose 18 = .ok (.iconst 1, 1) := dk_4 (dk_at dksX4_isLoose_0 18 rfl rfl)
theorem dX4_isLoose_19 : decode cX4_isLoose 19 = .ok (.ireturn, 1) := dk_172 (dk_at dksX4_isLoose_0 19 rfl rfl)
theorem dX4_isLoose_20 : decode cX4_isLoose 20 = .ok (.iload_n 2, 1) := dk_28 (dk_at dksX4_isLoose_0 20 rfl rfl)
theorem dX4_isLoose_21 : decode cX4_isLoose 21 = .ok (.bipush 40, 2) := dk_16 40 (dk_at dksX4_isLoose_0 21 rfl rfl)
theorem dX4_isLoose_23 : decode cX4_isLoose 23 = .ok (.if_icmp .ne 33, 3) := dk_160 0 33 (dk_at dksX4_isLoose_1 0 rfl rfl)
theorem dX4_isLoose_26 : decode cX4_isLoose 26 = .ok (.aload_n 0, 1) := dk_42 (dk_at dksX4_isLoose_1 3 rfl rfl)
theorem dX4_isLoose_27 : decode cX4_isLoose 27 = .ok (.iload_n 1, 1) := dk_27 (dk_at dksX4_isLoose_1 4 rfl rfl)
theorem dX4_isLoose_28 : decode cX4_isLoose 28 = .ok (.iconst 1, 1) := dk_4 (dk_at dksX4_isLoose_1 5 rfl rfl)
theorem dX4_isLoose_29 : decode cX4_isLoose 29 = .ok (.iadd, 1) := dk_96 (dk_at dksX4_isLoose_1 6 rfl rfl)
theorem dX4_isLoose_30 : decode cX4_isLoose 30 = .ok (.invokevirtual 24, 3) := dk_182 0 24 (dk_at dksX4_isLoose_1 7 rfl rfl)
theorem dX4_isLoose_33 : decode cX4_isLoose 33 = .ok (.bipush 63, 2) := dk_16 63 (dk_at dksX4_isLoose_1 10 rfl rfl)
theorem dX4_isLoose_35 : decode cX4_isLoose 35 = .ok (.if_icmp .ne 19, 3) := dk_160 0 19 (dk_at dksX4_isLoose_1 12 rfl rfl)
theorem dX4_isLoose_38 : decode cX4_isLoose 38 = .ok (.aload_n 0, 1) := dk_42 (dk_at dksX4_isLoose_1 15 rfl rfl)
theorem dX4_isLoose_39 : decode cX4_isLoose 39 = .ok (.iload_n 1, 1) := dk_27 (dk_at dksX4_isLoose_1 16 rfl rfl)
theorem dX4_isLoose_40 : decode cX4_isLoose 40 = .ok (.iconst 2, 1) := dk_5 (dk_at dksX4_isLoose_1 17 rfl rfl)
theorem dX4_isLoose_41 : decode cX4_isLoose 41 = .ok (.iadd, 1) := dk_96 (dk_at dksX4_isLoose_1 18 rfl rfl)
theorem dX4_isLoose_42 : decode cX4_isLoose 42 = .ok (.invokevirtual 24, 3) := dk_182 0 24 (dk_at dksX4_isLoose_1 19 rfl rfl)
theorem dX4_isLoose_45 : decode cX4_isLoose 45 = .ok (.bipush 58, 2) := dk_16 58 (dk_at dksX4_isLoose_1 22 rfl rfl)
theorem dX4_isLoose_47 : decode cX4_isLoose 47 = .ok (.if_icmp .eq 7, 3) := dk_159 0 7 (dk_at dksX4_isLoose_2 0 rfl rfl)
theorem dX4_isLoose_50 : decode cX4_isLoose 50 = .ok (.iconst 1, 1) := dk_4 (dk_at dksX4_isLoose_2 3 rfl rfl)
theorem dX4_isLoose_51 : decode cX4_isLoose 51 = .ok (.goto 4, 3) := dk_167 0 4 (dk_at dksX4_isLoose_2 4 rfl rfl)
theorem dX4_isLoose_54 : decode cX4_isLoose 54 = .ok (.iconst 0, 1) := dk_3 (dk_at dksX4_isLoose_2 7 rfl rfl)
theorem dX4_isLoose_55 : decode cX4_isLoose 55 = .ok (.ireturn, 1) := dk_172 (dk_at dksX4_isLoose_2 8 rfl rfl)
theorem dX4_isLoose_56 : decode cX4_isLoose 56 = .ok (.iload_n 2, 1) := dk_28 (dk_at dksX4_isLoose_2 9 rfl rfl)
theorem dX4_isLoose_57 : decode cX4_isLoose 57 = .ok (.bipush 92, 2) := dk_16 92 (dk_at dksX4_isLoose_2 10 rfl rfl)
theorem dX4_isLoose_59 : decode cX4_isLoose 59 = .ok (.if_icmp .ne 31, 3) := dk_160 0 31 (dk_at dksX4_isLoose_2 12 rfl rfl)
theorem dX4_isLoose_62 : decode cX4_isLoose 62 = .ok (.aload_n 0, 1) := dk_42 (dk_at dksX4_isLoose_2 15 rfl rfl)
theorem dX4_isLoose_63 : decode cX4_isLoose 63 = .ok (.iload_n 1, 1) := dk_27 (dk_at dksX4_isLoose_2 16 rfl rfl)
theorem dX4_isLoose_64 : decode cX4_isLoose 64 = .ok (.iconst 1, 1) := dk_4 (dk_at dksX4_isLoose_2 17 rfl rfl)
theorem dX4_isLoose_65 : decode cX4_isLoose 65 = .ok (.iadd, 1) := dk_96 (dk_at dksX4_isLoose_2 18 rfl rfl)
theorem dX4_isLoose_66 : decode cX4_isLoose 66 = .ok (.invokevirtual 24, 3) := dk_182 0 24 (dk_at dksX4_isLoose_2 19 rfl rfl)
theorem dX4_isLoose_69 : decode cX4_isLoose 69 = .ok (.bipush 98, 2) := dk_16 98 (dk_at dksX4_isLoose_2 22 rfl rfl)
theorem dX4_isLoose_71 : decode cX4_isLoose 71 = .ok (.if_icmp .eq 15, 3) := dk_159 0 15 (dk_at dksX4_isLoose_3 0 rfl rfl)
theorem dX4_isLoose_74 : decode cX4_isLoose 74 = .ok (.aload_n 0, 1) := dk_42 (dk_at dksX4_isLoose_3 3 rfl rfl)
theorem dX4_isLoose_75 : decode cX4_isLoose 75 = .ok (.iload_n 1, 1) := dk_27 (dk_at dksX4_isLoose_3 4 rfl rfl)
theorem dX4_isLoose_76 : decode cX4_isLoose 76 = .ok (.iconst 1, 1) := dk_4 (dk_at dksX4_isLoose_3 5 rfl rfl)
theorem dX4_isLoose_77 : decode cX4_isLoose 77 = .ok (.iadd, 1) := dk_96 (dk_at dksX4_isLoose_3 6 rfl rfl)
theorem dX4_isLoose_78 : decode cX4_isLoose 78 = .ok (.invokevirtual 24, 3) := dk_182 0 24 (dk_at dksX4_isLoose_3 7 rfl rfl)
theorem dX4_isLoose_81 : decode cX4_isLoose 81 = .ok (.bipush 66, 2) := dk_16 66 (dk_at dksX4_isLoose_3 10 rfl rfl)
theorem dX4_isLoose_83 : decode cX4_isLoose 83 = .ok (.if_icmp .ne 7, 3) := dk_160 0 7 (dk_at dksX4_isLoose_3 12 rfl rfl)
theorem dX4_isLoose_86 : decode cX4_isLoose 86 = .ok (.iconst 1, 1) := dk_4 (dk_at dksX4_isLoose_3 15 rfl rfl)
theorem dX4_isLoose_87 : decode cX4_isLoose 87 = .ok (.goto 4, 3) := dk_167 0 4 (dk_at dksX4_isLoose_3 16 rfl rfl)
theorem dX4_isLoose_90 : decode cX4_isLoose 90 = .ok (.iconst 0, 1) := dk_3 (dk_at dksX4_isLoose_3 19 rfl rfl)
theorem dX4_isLoose_91 : decode cX4_isLoose 91 = .ok (.ireturn, 1) := dk_172 (dk_at dksX4_isLoose_3 20 rfl rfl)
abbrev cX4_quantifier : ByteArray := prog_21_method_16_code
def yX4_quantifier : MethodName := ⟨RX4, "quantifie\x72", "(Z)Z"⟩
def dkwX4_quantifier_7 : List UInt8 := [180, 0, 21, 4, 96, 181, 0, 21, 4, 172]
abbrev dktX4_quantifier_7 : List UInt8 := dkwX4_quantifier_7 ++ []
def dkwX4_quantifier_6 : List UInt8 := [167, 0, 4, 3, 181, 0, 131, 42, 180, 0, 140, 154, 0, 10, 42, 180, 0, 131, 153, 0, 13, 42, 89]
abbrev dktX4_quantifier_6 : List UInt8 := dkwX4_quantifier_6 ++ dktX4_quantifier_7
def dkwX4_quantifier_5 : List UInt8 := [160, 0, 7, 4, 167, 0, 4, 3, 181, 0, 140, 42, 42, 182, 0, 93, 16, 43, 160, 0, 7, 4]
abbrev dktX4_quantifier_5 : List UInt8 := dkwX4_quantifier_5 ++ dktX4_quantifier_6
def dkwX4_quantifier_4 : List UInt8 := [167, 0, 4, 2, 181, 0, 137, 28, 16, 123, 160, 0, 7, 42, 182, 0, 150, 42, 42, 182, 0, 93, 16, 63]
abbrev dktX4_quantifier_4 : List UInt8 := dkwX4_quantifier_4 ++ dktX4_quantifier_5
def dkwX4_quantifier_3 : List UInt8 := [42, 28, 16, 43, 160, 0, 7, 4, 167, 0, 4, 3, 181, 0, 134, 42, 28, 16, 63, 160, 0, 7, 4]
abbrev dktX4_quantifier_3 : List UInt8 := dkwX4_quantifier_3 ++ dktX4_quantifier_4
def dkwX4_quantifier_2 : List UInt8 := [181, 0, 21, 42, 28, 16, 123, 159, 0, 9, 28, 16, 43, 160, 0, 7, 4, 167, 0, 4, 3, 181, 0, 128]
abbrev dktX4_quantifier_2 : List UInt8 := dkwX4_quantifier_2 ++ dktX4_quantifier_3
def dkwX4_quantifier_1 : List UInt8 := [16, 123, 159, 0, 5, 3, 172, 27, 153, 0, 8, 42, 182, 0, 48, 191, 42, 89, 180, 0, 21, 4, 96]
abbrev dktX4_quantifier_1 : List UInt8 := dkwX4_quantifier_1 ++ dktX4_quantifier_2
def dkwX4_quantifier_0 : List UInt8 := [42, 182, 0, 93, 61, 28, 16, 42, 159, 0, 23, 28, 16, 43, 159, 0, 17, 28, 16, 63, 159, 0, 11, 28]
abbrev dktX4_quantifier_0 : List UInt8 := dkwX4_quantifier_0 ++ dktX4_quantifier_1
theorem dksX4_quantifier_0 : cX4_quantifier.data.toList.drop 0 = dktX4_quantifier_0 := by decide +kernel
theorem dksX4_quantifier_1 : cX4_quantifier.data.toList.drop 24 = dktX4_quantifier_1 := dk_seg dksX4_quantifier_0 24 rfl rfl
theorem dksX4_quantifier_2 : cX4_quantifier.data.toList.drop 47 = dktX4_quantifier_2 := dk_seg dksX4_quantifier_1 23 rfl rfl
theorem dksX4_quantifier_3 : cX4_quantifier.data.toList.drop 71 = dktX4_quantifier_3 := dk_seg dksX4_quantifier_2 24 rfl rfl
theorem dksX4_quantifier_4 : cX4_quantifier.data.toList.drop 94 = dktX4_quantifier_4 := dk_seg dksX4_quantifier_3 23 rfl rfl
theorem dksX4_quantifier_5 : cX4_quantifier.data.toList.drop 118 = dktX4_quantifier_5 := dk_seg dksX4_quantifier_4 24 rfl rfl
theorem dksX4_quantifier_6 : cX4_quantifier.data.toList.drop 140 = dktX4_quantifier_6 := dk_seg dksX4_quantifier_5 22 rfl rfl
theorem dksX4_quantifier_7 : cX4_quantifier.data.toList.drop 163 = dktX4_quantifier_7 := dk_seg dksX4_quantifier_6 23 rfl rfl
theorem dX4_quantifier_0 : decode cX4_quantifier 0 = .ok (.aload_n 0, 1) := dk_42 (dk_at dksX4_quantifier_0 0 rfl rfl)
theorem dX4_quantifier_1 : decode cX4_quantifier 1 = .ok (.invokevirtual 93, 3) := dk_182 0 93 (dk_at dksX4_quantifier_0 1 rfl rfl)
theorem dX4_quantifier_4 : decode cX4_quantifier 4 = .ok (.istore_n 2, 1) := dk_61 (dk_at dksX4_quantifier_0 4 rfl rfl)
theorem dX4_quantifier_5 : decode cX4_quantifier 5 = .ok (.iload_n 2, 1) := dk_28 (dk_at dksX4_quantifier_0 5 rfl rfl)
theorem dX4_quantifier_6 : decode cX4_quantifier 6 = .ok (.bipush 42, 2) := dk_16 42 (dk_at dksX4_quantifier_0 6 rfl rfl)
theorem dX4_quantifier_8 : decode cX4_quantifier 8 = .ok (.if_icmp .eq 23, 3) := dk_159 0 23 (dk_at dksX4_quantifier_0 8 rfl rfl)
theorem dX4_quantifier_11 : decode cX4_quantifier 11 = .ok (.iload_n 2, 1) := dk_28 (dk_at dksX4_quantifier_0 11 rfl rfl)
theorem dX4_quantifier_12 : decode cX4_quantifier 12 = .ok (.bipush 43, 2) := dk_16 43 (dk_at dksX4_quantifier_0 12 rfl rfl)
theorem dX4_quantifier_14 : decode cX4_quantifier 14 = .ok (.if_icmp .eq 17, 3) := dk_159 0 17 (dk_at dksX4_quantifier_0 14 rfl rfl)
theorem dX4_quantifier_17 : decode cX4_quantifier 17 = .ok (.iload_n 2, 1) := dk_28 (dk_at dksX4_quantifier_0 17 rfl rfl)
theorem dX4_quantifier_18 : decode cX4_quantifier 18 = .ok (.bipush 63, 2) := dk_16 63 (dk_at dksX4_quantifier_0 18 rfl rfl)
theorem dX4_quantifier_20 : decode cX4_quantifier 20 = .ok (.if_icmp .eq 11, 3) := dk_159 0 11 (dk_at dksX4_quantifier_0 20 rfl rfl)
theorem dX4_quantifier_23 : decode cX4_quantifier 23 = .ok (.iload_n 2, 1) := dk_28 (dk_at dksX4_quantifier_0 23 rfl rfl)
theorem dX4_quantifier_24 : decode cX4_quantifier 24 = .ok (.bipush 123, 2) := dk_16 123 (dk_at dksX4_quantifier_1 0 rfl rfl)
theorem dX4_quantifier_26 : decode cX4_quantifier 26 = .ok (.if_icmp .eq 5, 3) := dk_159 0 5 (dk_at dksX4_quantifier_1 2 rfl rfl)
theorem dX4_quantifier_29 : decode cX4_quantifier 29 = .ok (.iconst 0, 1) := dk_3 (dk_at dksX4_quantifier_1 5 rfl rfl)
theorem dX4_quantifier_30 : decode cX4_quantifier 30 = .ok (.ireturn, 1) := dk_172 (dk_at dksX4_quantifier_1 6 rfl rfl)
theorem dX4_quantifier_31 : decode cX4_quantifier 31 = .ok (.iload_n 1, 1) := dk_27 (dk_at dksX4_quantifier_1 7 rfl rfl)
theorem dX4_quantifier_32 : decode cX4_quantifier 32 = .ok (.ifCond .eq 8, 3) := dk_153 0 8 (dk_at dksX4_quantifier_1 8 rfl rfl)
theorem dX4_quantifier_35 : decode cX4_quantifier 35 = .ok (.aload_n 0, 1) := dk_42 (dk_at dksX4_quantifier_1 11 rfl rfl)
theorem dX4_quantifier_36 : decode cX4_quantifier 36 = .ok (.invokevirtual 48, 3) := dk_182 0 48 (dk_at dksX4_quantifier_1 12 rfl rfl)
theorem dX4_quantifier_39 : decode cX4_quantifier 39 = .ok (.athrow, 1) := dk_191 (dk_at dksX4_quantifier_1 15 rfl rfl)
theorem dX4_quantifier_40 : decode cX4_quantifier 40 = .ok (.aload_n 0, 1) := dk_42 (dk_at dksX4_quantifier_1 16 rfl rfl)
theorem dX4_quantifier_41 : decode cX4_quantifier 41 = .ok (.dup, 1) := dk_89 (dk_at dksX4_quantifier_1 17 rfl rfl)
theorem dX4_quantifier_42 : decode cX4_quantifier 42 = .ok (.getfield 21, 3) := dk_180 0 21 (dk_at dksX4_quantifier_1 18 rfl rfl)
theorem dX4_quantifier_45 : decode cX4_quantifier 45 = .ok (.iconst 1, 1) := dk_4 (dk_at dksX4_quantifier_1 21 rfl rfl)
theorem dX4_quantifier_46 : decode cX4_quantifier 46 = .ok (.iadd, 1) := dk_96 (dk_at dksX4_quantifier_1 22 rfl rfl)
theorem dX4_quantifier_47 : decode cX4_quantifier 47 = .ok (.putfield 21, 3) := dk_181 0 21 (dk_at dksX4_quantifier_2 0 rfl rfl)
theorem dX4_quantifier_50 : decode cX4_quantifier 50 = .ok (.aload_n 0, 1) := dk_42 (dk_at dksX4_quantifier_2 3 rfl rfl)
theorem dX4_quantifier_51 : decode cX4_quantifier 51 = .ok (.iload_n 2, 1) := dk_28 (dk_at dksX4_quantifier_2 4 rfl rfl)
theorem dX4_quantifier_52 : decode cX4_quantifier 52 = .ok (.bipush 123, 2) := dk_16 123 (dk_at dksX4_quantifier_2 5 rfl rfl)
theorem dX4_quantifier_54 : decode cX4_quantifier 54 = .ok (.if_icmp .eq 9, 3) := dk_159 0 9 (dk_at dksX4_quantifier_2 7 rfl rfl)
theorem dX4_quantifier_57 : decode cX4_quantifier 57 = .ok (.iload_n 2, 1) := dk_28 (dk_at dksX4_quantifier_2 10 rfl rfl)
theorem dX4_quantifier_58 : decode cX4_quantifier 58 = .ok (.bipush 43, 2) := dk_16 43 (dk_at dksX4_quantifier_2 11 rfl rfl)
theorem dX4_quantifier_60 : decode cX4_quantifier 60 = .ok (.if_icmp .ne 7, 3) := dk_160 0 7 (dk_at dksX4_quantifier_2 13 rfl rfl)
theorem dX4_quantifier_63 : decode cX4_quantifier 63 = .ok (.iconst 1, 1) := dk_4 (dk_at dksX4_quantifier_2 16 rfl rfl)
theorem dX4_quantifier_64 : decode cX4_quantifier 64 = .ok (.goto 4, 3) := dk_167 0 4 (dk_at dksX4_quantifier_2 17 rfl rfl)
theorem dX4_quantifier_67 : decode cX4_quantifier 67 = .ok (.iconst 0, 1) := dk_3 (dk_at dksX4_quantifier_2 20 rfl rfl)
theorem dX4_quantifier_68 : decode cX4_quantifier 68 = .ok (.putfield 128, 3) := dk_181 0 128 (dk_at dksX4_quantifier_2 21 rfl rfl)
theorem dX4_quantifier_71 : decode cX4_quantifier 71 = .ok (.aload_n 0, 1) := dk_42 (dk_at dksX4_quantifier_3 0 rfl rfl)
theorem dX4_quantifier_72 : decode cX4_quantifier 72 = .ok (.iload_n 2, 1) := dk_28 (dk_at dksX4_quantifier_3 1 rfl rfl)
theorem dX4_quantifier_73 : decode cX4_quantifier 73 = .ok (.bipush 43, 2) := dk_16 43 (dk_at dksX4_quantifier_3 2 rfl rfl)
theorem dX4_quantifier_75 : decode cX4_quantifier 75 = .ok (.if_icmp .ne 7, 3) := dk_160 0 7 (dk_at dksX4_quantifier_3 4 rfl rfl)
theorem dX4_quantifier_78 : decode cX4_quantifier 78 = .ok (.iconst 1, 1) := dk_4 (dk_at dksX4_quantifier_3 7 rfl rfl)
theorem dX4_quantifier_79 : decode cX4_quantifier 79 = .ok (.goto 4, 3) := dk_167 0 4 (dk_at dksX4_quantifier_3 8 rfl rfl)
theorem dX4_quantifier_82 : decode cX4_quantifier 82 = .ok (.iconst 0, 1) := dk_3 (dk_at dksX4_quantifier_3 11 rfl rfl)
theorem dX4_quantifier_83 : decode cX4_quantifier 83 = .ok (.putfield 134, 3) := dk_181 0 134 (dk_at dksX4_quantifier_3 12 rfl rfl)
theorem dX4_quantifier_86 : decode cX4_quantifier 86 = .ok (.aload_n 0, 1) := dk_42 (dk_at dksX4_quantifier_3 15 rfl rfl)
theorem dX4_quantifier_87 : decode cX4_quantifier 87 = .ok (.iload_n 2, 1) := dk_28 (dk_at dksX4_quantifier_3 16 rfl rfl)
theorem dX4_quantifier_88 : decode cX4_quantifier 88 = .ok (.bipush 63, 2) := dk_16 63 (dk_at dksX4_quantifier_3 17 rfl rfl)
theorem dX4_quantifier_90 : decode cX4_quantifier 90 = .ok (.if_icmp .ne 7, 3) := dk_160 0 7 (dk_at dksX4_quantifier_3 19 rfl rfl)
theorem dX4_quantifier_93 : decode cX4_quantifier 93 = .ok (.iconst 1, 1) := dk_4 (dk_at dksX4_quantifier_3 22 rfl rfl)
theorem dX4_quantifier_94 : decode cX4_quantifier 94 = .ok (.goto 4, 3) := dk_167 0 4 (dk_at dksX4_quantifier_4 0 rfl rfl)
theorem dX4_quantifier_97 : decode cX4_quantifier 97 = .ok (.iconst (-1), 1) := dk_2 (dk_at dksX4_quantifier_4 3 rfl rfl)
theorem dX4_quantifier_98 : decode cX4_quantifier 98 = .ok (.putfield 137, 3) := dk_181 0 137 (dk_at dksX4_quantifier_4 4 rfl rfl)
theorem dX4_quantifier_101 : decode cX4_quantifier 101 = .ok (.iload_n 2, 1) := dk_28 (dk_at dksX4_quantifier_4 7 rfl rfl)
theorem dX4_quantifier_102 : decode cX4_quantifier 102 = .ok (.bipush 123, 2) := dk_16 123 (dk_at dksX4_quantifier_4 8 rfl rfl)
theorem dX4_quantifier_104 : decode cX4_quantifier 104 = .ok (.if_icmp .ne 7, 3) := dk_160 0 7 (dk_at dksX4_quantifier_4 10 rfl rfl)
theorem dX4_quantifier_107 : decode cX4_quantifier 107 = .ok (.aload_n 0, 1) := dk_42 (dk_at dksX4_quantifier_4 13 rfl rfl)
theorem dX4_quantifier_108 : decode cX4_quantifier 108 = .ok (.invokevirtual 150, 3) := dk_182 0 150 (dk_at dksX4_quantifier_4 14 rfl rfl)
theorem dX4_quantifier_111 : decode cX4_quantifier 111 = .ok (.aload_n 0, 1) := dk_42 (dk_at dksX4_quantifier_4 17 rfl rfl)
theorem dX4_quantifier_112 : decode cX4_quantifier 112 = .ok (.aload_n 0, 1) := dk_42 (dk_at dksX4_quantifier_4 18 rfl rfl)
theorem dX4_quantifier_113 : decode cX4_quantifier 113 = .ok (.invokevirtual 93, 3) := dk_182 0 93 (dk_at dksX4_quantifier_4 19 rfl rfl)
theorem dX4_quantifier_116 : decode cX4_quantifier 116 = .ok (.bipush 63, 2) := dk_16 63 (dk_at dksX4_quantifier_4 22 rfl rfl)
theorem dX4_quantifier_118 : decode cX4_quantifier 118 = .ok (.if_icmp .ne 7, 3) := dk_160 0 7 (dk_at dksX4_quantifier_5 0 rfl rfl)
theorem dX4_quantifier_121 : decode cX4_quantifier 121 = .ok (.iconst 1, 1) := dk_4 (dk_at dksX4_quantifier_5 3 rfl rfl)
theorem dX4_quantifier_122 : decode cX4_quantifier 122 = .ok (.goto 4, 3) := dk_167 0 4 (dk_at dksX4_quantifier_5 4 rfl rfl)
theorem dX4_quantifier_125 : decode cX4_quantifier 125 = .ok (.iconst 0, 1) := dk_3 (dk_at dksX4_quantifier_5 7 rfl rfl)
theorem dX4_quantifier_126 : decode cX4_quantifier 126 = .ok (.putfield 140, 3) := dk_181 0 140 (dk_at dksX4_quantifier_5 8 rfl rfl)
theorem dX4_quantifier_129 : decode cX4_quantifier 129 = .ok (.aload_n 0, 1) := dk_42 (dk_at dksX4_quantifier_5 11 rfl rfl)
theorem dX4_quantifier_130 : decode cX4_quantifier 130 = .ok (.aload_n 0, 1) := dk_42 (dk_at dksX4_quantifier_5 12 rfl rfl)
theorem dX4_quantifier_131 : decode cX4_quantifier 131 = .ok (.invokevirtual 93, 3) := dk_182 0 93 (dk_at dksX4_quantifier_5 13 rfl rfl)
theorem dX4_quantifier_134 : decode cX4_quantifier 134 = .ok (.bipush 43, 2) := dk_16 43 (dk_at dksX4_quantifier_5 16 rfl rfl)
theorem dX4_quantifier_136 : decode cX4_quantifier 136 = .ok (.if_icmp .ne 7, 3) := dk_160 0 7 (dk_at dksX4_quantifier_5 18 rfl rfl)
theorem dX4_quantifier_139 : decode cX4_quantifier 139 = .ok (.iconst 1, 1) := dk_4 (dk_at dksX4_quantifier_5 21 rfl rfl)
theorem dX4_quantifier_140 : decode cX4_quantifier 140 = .ok (.goto 4, 3) := dk_167 0 4 (dk_at dksX4_quantifier_6 0 rfl rfl)
theorem dX4_quantifier_143 : decode cX4_quantifier 143 = .ok (.iconst 0, 1) := dk_3 (dk_at dksX4_quantifier_6 3 rfl rfl)
theorem dX4_quantifier_144 : decode cX4_quantifier 144 = .ok (.putfield 131, 3) := dk_181 0 131 (dk_at dksX4_quantifier_6 4 rfl rfl)
theorem dX4_quantifier_147 : decode cX4_quantifier 147 = .ok (.aload_n 0, 1) := dk_42 (dk_at dksX4_quantifier_6 7 rfl rfl)
theorem dX4_quantifier_148 : decode cX4_quantifier 148 = .ok (.getfield 140, 3) := dk_180 0 140 (dk_at dksX4_quantifier_6 8 rfl rfl)
theorem dX4_quantifier_151 : decode cX4_quantifier 151 = .ok (.ifCond .ne 10, 3) := dk_154 0 10 (dk_at dksX4_quantifier_6 11 rfl rfl)
theorem dX4_quantifier_154 : decode cX4_quantifier 154 = .ok (.aload_n 0, 1) := dk_42 (dk_at dksX4_quantifier_6 14 rfl rfl)
theorem dX4_quantifier_155 : decode cX4_quantifier 155 = .ok (.getfield 131, 3) := dk_180 0 131 (dk_at dksX4_quantifier_6 15 rfl rfl)
theorem dX4_quantifier_158 : decode cX4_quantifier 158 = .ok (.ifCond .eq 13, 3) := dk_153 0 13 (dk_at dksX4_quantifier_6 18 rfl rfl)
theorem dX4_quantifier_161 : decode cX4_quantifier 161 = .ok (.aload_n 0, 1) := dk_42 (dk_at dksX4_quantifier_6 21 rfl rfl)
theorem dX4_quantifier_162 : decode cX4_quantifier 162 = .ok (.dup, 1) := dk_89 (dk_at dksX4_quantifier_6 22 rfl rfl)
theorem dX4_quantifier_163 : decode cX4_quantifier 163 = .ok (.getfield 21, 3) := dk_180 0 21 (dk_at dksX4_quantifier_7 0 rfl rfl)
theorem dX4_quantifier_166 : decode cX4_quantifier 166 = .ok (.iconst 1, 1) := dk_4 (dk_at dksX4_quantifier_7 3 rfl rfl)
theorem dX4_quantifier_167 : decode cX4_quantifier 167 = .ok (.iadd, 1) := dk_96 (dk_at dksX4_quantifier_7 4 rfl rfl)
theorem dX4_quantifier_168 : decode cX4_quantifier 168 = .ok (.putfield 21, 3) := dk_181 0 21 (dk_at dksX4_quantifier_7 5 rfl rfl)
theorem dX4_quantifier_171 : decode cX4_quantifier 171 = .ok (.iconst 1, 1) := dk_4 (dk_at dksX4_quantifier_7 8 rfl rfl)
theorem dX4_quantifier_172 : decode cX4_quantifier 172 = .ok (.ireturn, 1) := dk_172 (dk_at dksX4_quantifier_7 9 rfl rfl)
abbrev cX4_counts : ByteArray := prog_21_method_17_code
def yX4_counts : MethodName := ⟨RX4, "counts", "()V"⟩
def dkwX4_counts_4 : List UInt8 := [16, 125, 159, 0, 8, 42, 182, 0, 48, 191, 42, 89, 180, 0, 21, 4, 96, 181, 0, 21, 177]
abbrev dktX4_counts_4 : List UInt8 := dkwX4_counts_4 ++ []
def dkwX4_counts_3 : List UInt8 := [180, 0, 137, 42, 180, 0, 134, 162, 0, 12, 187, 0, 28, 89, 27, 183, 0, 30, 191, 42, 182, 0, 93]
abbrev dktX4_counts_3 : List UInt8 := dkwX4_counts_3 ++ dktX4_counts_4
def dkwX4_counts_2 : List UInt8 := [16, 125, 160, 0, 7, 2, 167, 0, 7, 42, 182, 0, 153, 181, 0, 137, 42, 180, 0, 137, 155, 0, 23, 42]
abbrev dktX4_counts_2 : List UInt8 := dkwX4_counts_2 ++ dktX4_counts_3
def dkwX4_counts_1 : List UInt8 := [160, 0, 66, 42, 89, 180, 0, 21, 4, 96, 181, 0, 21, 42, 180, 0, 21, 60, 42, 42, 182, 0, 93]
abbrev dktX4_counts_1 : List UInt8 := dkwX4_counts_1 ++ dktX4_counts_2
def dkwX4_counts_0 : List UInt8 := [42, 42, 182, 0, 153, 181, 0, 134, 42, 42, 180, 0, 134, 181, 0, 137, 42, 182, 0, 93, 16, 44]
abbrev dktX4_counts_0 : List UInt8 := dkwX4_counts_0 ++ dktX4_counts_1
theorem dksX4_counts_0 : cX4_counts.data.toList.drop 0 = dktX4_counts_0 := by decide +kernel
theorem dksX4_counts_1 : cX4_counts.data.toList.drop 22 = dktX4_counts_1 := dk_seg dksX4_counts_0 22 rfl rfl
theorem dksX4_counts_2 : cX4_counts.data.toList.drop 45 = dktX4_counts_2 := dk_seg dksX4_counts_1 23 rfl rfl
theorem dksX4_counts_3 : cX4_counts.data.toList.drop 69 = dktX4_counts_3 := dk_seg dksX4_counts_2 24 rfl rfl
theorem dksX4_counts_4 : cX4_counts.data.toList.drop 92 = dktX4_counts_4 := dk_seg dksX4_counts_3 23 rfl rfl
theorem dX4_counts_0 : decode cX4_counts 0 = .ok (.aload_n 0, 1) := dk_42 (dk_at dksX4_counts_0 0 rfl rfl)
theorem dX4_counts_1 : decode cX4_counts 1 = .ok (.aload_n 0, 1) := dk_42 (dk_at dksX4_counts_0 1 rfl rfl)
theorem dX4_counts_2 : decode cX4_counts 2 = .ok (.invokevirtual 153, 3) := dk_182 0 153 (dk_at dksX4_counts_0 2 rfl rfl)
theorem dX4_counts_5 : decode cX4_counts 5 = .ok (.putfield 134, 3) := dk_181 0 134 (dk_at dksX4_counts_0 5 rfl rfl)
theorem dX4_counts_8 : decode cX4_counts 8 = .ok (.aload_n 0, 1) := dk_42 (dk_at dksX4_counts_0 8 rfl rfl)
theorem dX4_counts_9 : decode cX4_counts 9 = .ok (.aload_n 0, 1) := dk_42 (dk_at dksX4_counts_0 9 rfl rfl)
theorem dX4_counts_10 : decode cX4_counts 10 = .ok (.getfield 134, 3) := dk_180 0 134 (dk_at dksX4_counts_0 10 rfl rfl)
theorem dX4_counts_13 : decode cX4_counts 13 = .ok (.putfield 137, 3) := dk_181 0 137 (dk_at dksX4_counts_0 13 rfl rfl)
theorem dX4_counts_16 : decode cX4_counts 16 = .ok (.aload_n 0, 1) := dk_42 (dk_at dksX4_counts_0 16 rfl rfl)
theorem dX4_counts_17 : decode cX4_counts 17 = .ok (.invokevirtual 93, 3) := dk_182 0 93 (dk_at dksX4_counts_0 17 rfl rfl)
theorem dX4_counts_20 : decode cX4_counts 20 = .ok (.bipush 44, 2) := dk_16 44 (dk_at dksX4_counts_0 20 rfl rfl)
theorem dX4_counts_22 : decode cX4_counts 22 = .ok (.if_icmp .ne 66, 3) := dk_160 0 66 (dk_at dksX4_counts_1 0 rfl rfl)
theorem dX4_counts_25 : decode cX4_counts 25 = .ok (.aload_n 0, 1) := dk_42 (dk_at dksX4_counts_1 3 rfl rfl)
theorem dX4_counts_26 : decode cX4_counts 26 = .ok (.dup, 1) := dk_89 (dk_at dksX4_counts_1 4 rfl rfl)
theorem dX4_counts_27 : decode cX4_counts 27 = .ok (.getfield 21, 3) := dk_180 0 21 (dk_at dksX4_counts_1 5 rfl rfl)
theorem dX4_counts_30 : decode cX4_counts 30 = .ok (.iconst 1, 1) := dk_4 (dk_at dksX4_counts_1 8 rfl rfl)
theorem dX4_counts_31 : decode cX4_counts 31 = .ok (.iadd, 1) := dk_96 (dk_at dksX4_counts_1 9 rfl rfl)
theorem dX4_counts_32 : decode cX4_counts 32 = .ok (.putfield 21, 3) := dk_181 0 21 (dk_at dksX4_counts_1 10 rfl rfl)
theorem dX4_counts_35 : decode cX4_counts 35 = .ok (.aload_n 0, 1) := dk_42 (dk_at dksX4_counts_1 13 rfl rfl)
theorem dX4_counts_36 : decode cX4_counts 36 = .ok (.getfield 21, 3) := dk_180 0 21 (dk_at dksX4_counts_1 14 rfl rfl)
theorem dX4_counts_39 : decode cX4_counts 39 = .ok (.istore_n 1, 1) := dk_60 (dk_at dksX4_counts_1 17 rfl rfl)
theorem dX4_counts_40 : decode cX4_counts 40 = .ok (.aload_n 0, 1) := dk_42 (dk_at dksX4_counts_1 18 rfl rfl)
theorem dX4_counts_41 : decode cX4_counts 41 = .ok (.aload_n 0, 1) := dk_42 (dk_at dksX4_counts_1 19 rfl rfl)
theorem dX4_counts_42 : decode cX4_counts 42 = .ok (.invokevirtual 93, 3) := dk_182 0 93 (dk_at dksX4_counts_1 20 rfl rfl)
theorem dX4_counts_45 : decode cX4_counts 45 = .ok (.bipush 125, 2) := dk_16 125 (dk_at dksX4_counts_2 0 rfl rfl)
theorem dX4_counts_47 : decode cX4_counts 47 = .ok (.if_icmp .ne 7, 3) := dk_160 0 7 (dk_at dksX4_counts_2 2 rfl rfl)
theorem dX4_counts_50 : decode cX4_counts 50 = .ok (.iconst (-1), 1) := dk_2 (dk_at dksX4_counts_2 5 rfl rfl)
theorem dX4_counts_51 : decode cX4_counts 51 = .ok (.goto 7, 3) := dk_167 0 7 (dk_at dksX4_counts_2 6 rfl rfl)
theorem dX4_counts_54 : decode cX4_counts 54 = .ok (.aload_n 0, 1) := dk_42 (dk_at dksX4_counts_2 9 rfl rfl)
theorem dX4_counts_55 : decode cX4_counts 55 = .ok (.invokevirtual 153, 3) := dk_182 0 153 (dk_at dksX4_counts_2 10 rfl rfl)
theorem dX4_counts_58 : decode cX4_counts 58 = .ok (.putfield 137, 3) := dk_181 0 137 (dk_at dksX4_counts_2 13 rfl rfl)
theorem dX4_counts_61 : decode cX4_counts 61 = .ok (.aload_n 0, 1) := dk_42 (dk_at dksX4_counts_2 16 rfl rfl)
theorem dX4_counts_62 : decode cX4_counts 62 = .ok (.getfield 137, 3) := dk_180 0 137 (dk_at dksX4_counts_2 17 rfl rfl)
theorem dX4_counts_65 : decode cX4_counts 65 = .ok (.ifCond .lt 23, 3) := dk_155 0 23 (dk_at dksX4_counts_2 20 rfl rfl)
theorem dX4_counts_68 : decode cX4_counts 68 = .ok (.aload_n 0, 1) := dk_42 (dk_at dksX4_counts_2 23 rfl rfl)
theorem dX4_counts_69 : decode cX4_counts 69 = .ok (.getfield 137, 3) := dk_180 0 137 (dk_at dksX4_counts_3 0 rfl rfl)
theorem dX4_counts_72 : decode cX4_counts 72 = .ok (.aload_n 0, 1) := dk_42 (dk_at dksX4_counts_3 3 rfl rfl)
theorem dX4_counts_73 : decode cX4_counts 73 = .ok (.getfield 134, 3) := dk_180 0 134 (dk_at dksX4_counts_3 4 rfl rfl)
theorem dX4_counts_76 : decode cX4_counts 76 = .ok (.if_icmp .ge 12, 3) := dk_162 0 12 (dk_at dksX4_counts_3 7 rfl rfl)
theorem dX4_counts_79 : decode cX4_counts 79 = .ok (.new 28, 3) := dk_187 0 28 (dk_at dksX4_counts_3 10 rfl rfl)
theorem dX4_counts_82 : decode cX4_counts 82 = .ok (.dup, 1) := dk_89 (dk_at dksX4_counts_3 13 rfl rfl)
theorem dX4_counts_83 : decode cX4_counts 83 = .ok (.iload_n 1, 1) := dk_27 (dk_at dksX4_counts_3 14 rfl rfl)
theorem dX4_counts_84 : decode cX4_counts 84 = .ok (.invokespecial 30, 3) := dk_183 0 30 (dk_at dksX4_counts_3 15 rfl rfl)
theorem dX4_counts_87 : decode cX4_counts 87 = .ok (.athrow, 1) := dk_191 (dk_at dksX4_counts_3 18 rfl rfl)
theorem dX4_counts_88 : decode cX4_counts 88 = .ok (.aload_n 0, 1) := dk_42 (dk_at dksX4_counts_3 19 rfl rfl)
theorem dX4_counts_89 : decode cX4_counts 89 = .ok (.invokevirtual 93, 3) := dk_182 0 93 (dk_at dksX4_counts_3 20 rfl rfl)
theorem dX4_counts_92 : decode cX4_counts 92 = .ok (.bipush 125, 2) := dk_16 125 (dk_at dksX4_counts_4 0 rfl rfl)
theorem dX4_counts_94 : decode cX4_counts 94 = .ok (.if_icmp .eq 8, 3) := dk_159 0 8 (dk_at dksX4_counts_4 2 rfl rfl)
theorem dX4_counts_97 : decode cX4_counts 97 = .ok (.aload_n 0, 1) := dk_42 (dk_at dksX4_counts_4 5 rfl rfl)
theorem dX4_counts_98 : decode cX4_counts 98 = .ok (.invokevirtual 48, 3) := dk_182 0 48 (dk_at dksX4_counts_4 6 rfl rfl)
theorem dX4_counts_101 : decode cX4_counts 101 = .ok (.athrow, 1) := dk_191 (dk_at dksX4_counts_4 9 rfl rfl)
theorem dX4_counts_102 : decode cX4_counts 102 = .ok (.aload_n 0, 1) := dk_42 (dk_at dksX4_counts_4 10 rfl rfl)
theorem dX4_counts_103 : decode cX4_counts 103 = .ok (.dup, 1) := dk_89 (dk_at dksX4_counts_4 11 rfl rfl)
theorem dX4_counts_104 : decode cX4_counts 104 = .ok (.getfield 21, 3) := dk_180 0 21 (dk_at dksX4_counts_4 12 rfl rfl)
theorem dX4_counts_107 : decode cX4_counts 107 = .ok (.iconst 1, 1) := dk_4 (dk_at dksX4_counts_4 15 rfl rfl)
theorem dX4_counts_108 : decode cX4_counts 108 = .ok (.iadd, 1) := dk_96 (dk_at dksX4_counts_4 16 rfl rfl)
theorem dX4_counts_109 : decode cX4_counts 109 = .ok (.putfield 21, 3) := dk_181 0 21 (dk_at dksX4_counts_4 17 rfl rfl)
theorem dX4_counts_112 : decode cX4_counts 112 = .ok (.return_, 1) := dk_177 (dk_at dksX4_counts_4 20 rfl rfl)
abbrev cX4_number : ByteArray := prog_21_method_19_code
def yX4_number : MethodName := ⟨RX4, "numbe\x72", "()I"⟩
def dkwX4_number_4 : List UInt8 := [164, 0, 12, 187, 0, 28, 89, 27, 183, 0, 30, 191, 28, 172]
abbrev dktX4_number_4 : List UInt8 := dkwX4_number_4 ++ []
def dkwX4_number_3 : List UInt8 := [182, 0, 93, 96, 16, 48, 100, 61, 42, 89, 180, 0, 21, 4, 96, 181, 0, 21, 167, 255, 212, 28, 16, 20]
abbrev dktX4_number_3 : List UInt8 := dkwX4_number_3 ++ dktX4_number_4
def dkwX4_number_2 : List UInt8 := [184, 0, 156, 153, 0, 40, 28, 17, 3, 232, 164, 0, 7, 28, 167, 0, 15, 16, 10, 28, 104, 42]
abbrev dktX4_number_2 : List UInt8 := dkwX4_number_2 ++ dktX4_number_3
def dkwX4_number_1 : List UInt8 := [16, 48, 160, 0, 15, 42, 89, 180, 0, 21, 4, 96, 181, 0, 21, 3, 172, 3, 61, 42, 182, 0, 93]
abbrev dktX4_number_1 : List UInt8 := dkwX4_number_1 ++ dktX4_number_2
def dkwX4_number_0 : List UInt8 := [42, 180, 0, 21, 60, 42, 182, 0, 93, 184, 0, 156, 154, 0, 8, 42, 182, 0, 48, 191, 42, 182, 0, 93]
abbrev dktX4_number_0 : List UInt8 := dkwX4_number_0 ++ dktX4_number_1
theorem dksX4_number_0 : cX4_number.data.toList.drop 0 = dktX4_number_0 := by decide +kernel
theorem dksX4_number_1 : cX4_number.data.toList.drop 24 = dktX4_number_1 := dk_seg dksX4_number_0 24 rfl rfl
theorem dksX4_number_2 : cX4_number.data.toList.drop 47 = dktX4_number_2 := dk_seg dksX4_number_1 23 rfl rfl
theorem dksX4_number_3 : cX4_number.data.toList.drop 69 = dktX4_number_3 := dk_seg dksX4_number_2 22 rfl rfl
theorem dksX4_number_4 : cX4_number.data.toList.drop 93 = dktX4_number_4 := dk_seg dksX4_number_3 24 rfl rfl
theorem dX4_number_0 : decode cX4_number 0 = .ok (.aload_n 0, 1) := dk_42 (dk_at dksX4_number_0 0 rfl rfl)
theorem dX4_number_1 : decode cX4_number 1 = .ok (.getfield 21, 3) := dk_180 0 21 (dk_at dksX4_number_0 1 rfl rfl)
theorem dX4_number_4 : decode cX4_number 4 = .ok (.istore_n 1, 1) := dk_60 (dk_at dksX4_number_0 4 rfl rfl)
theorem dX4_number_5 : decode cX4_number 5 = .ok (.aload_n 0, 1) := dk_42 (dk_at dksX4_number_0 5 rfl rfl)
theorem dX4_number_6 : decode cX4_number 6 = .ok (.invokevirtual 93, 3) := dk_182 0 93 (dk_at dksX4_number_0 6 rfl rfl)
theorem dX4_number_9 : decode cX4_number 9 = .ok (.invokestatic 156, 3) := dk_184 0 156 (dk_at dksX4_number_0 9 rfl rfl)
theorem dX4_number_12 : decode cX4_number 12 = .ok (.ifCond .ne 8, 3) := dk_154 0 8 (dk_at dksX4_number_0 12 rfl rfl)
theorem dX4_number_15 : decode cX4_number 15 = .ok (.aload_n 0, 1) := dk_42 (dk_at dksX4_number_0 15 rfl rfl)
theorem dX4_number_16 : decode cX4_number 16 = .ok (.invokevirtual 48, 3) := dk_182 0 48 (dk_at dksX4_number_0 16 rfl rfl)
theorem dX4_number_19 : decode cX4_number 19 = .ok (.athrow, 1) := dk_191 (dk_at dksX4_number_0 19 rfl rfl)
theorem dX4_number_20 : decode cX4_number 20 = .ok (.aload_n 0, 1) := dk_42 (dk_at dksX4_number_0 20 rfl rfl)
theorem dX4_number_21 : decode cX4_number 21 = .ok (.invokevirtual 93, 3) := dk_182 0 93 (dk_at dksX4_number_0 21 rfl rfl)
theorem dX4_number_24 : decode cX4_number 24 = .ok (.bipush 48, 2) := dk_16 48 (dk_at dksX4_number_1 0 rfl rfl)
theorem dX4_number_26 : decode cX4_number 26 = .ok (.if_icmp .ne 15, 3) := dk_160 0 15 (dk_at dksX4_number_1 2 rfl rfl)
theorem dX4_number_29 : decode cX4_number 29 = .ok (.aload_n 0, 1) := dk_42 (dk_at dksX4_number_1 5 rfl rfl)
theorem dX4_number_30 : decode cX4_number 30 = .ok (.dup, 1) := dk_89 (dk_at dksX4_number_1 6 rfl rfl)
theorem dX4_number_31 : decode cX4_number 31 = .ok (.getfield 21, 3) := dk_180 0 21 (dk_at dksX4_number_1 7 rfl rfl)
theorem dX4_number_34 : decode cX4_number 34 = .ok (.iconst 1, 1) := dk_4 (dk_at dksX4_number_1 10 rfl rfl)
theorem dX4_number_35 : decode cX4_number 35 = .ok (.iadd, 1) := dk_96 (dk_at dksX4_number_1 11 rfl rfl)
theorem dX4_number_36 : decode cX4_number 36 = .ok (.putfield 21, 3) := dk_181 0 21 (dk_at dksX4_number_1 12 rfl rfl)
theorem dX4_number_39 : decode cX4_number 39 = .ok (.iconst 0, 1) := dk_3 (dk_at dksX4_number_1 15 rfl rfl)
theorem dX4_number_40 : decode cX4_number 40 = .ok (.ireturn, 1) := dk_172 (dk_at dksX4_number_1 16 rfl rfl)
theorem dX4_number_41 : decode cX4_number 41 = .ok (.iconst 0, 1) := dk_3 (dk_at dksX4_number_1 17 rfl rfl)
theorem dX4_number_42 : decode cX4_number 42 = .ok (.istore_n 2, 1) := dk_61 (dk_at dksX4_number_1 18 rfl rfl)
theorem dX4_number_43 : decode cX4_number 43 = .ok (.aload_n 0, 1) := dk_42 (dk_at dksX4_number_1 19 rfl rfl)
theorem dX4_number_44 : decode cX4_number 44 = .ok (.invokevirtual 93, 3) := dk_182 0 93 (dk_at dksX4_number_1 20 rfl rfl)
theorem dX4_number_47 : decode cX4_number 47 = .ok (.invokestatic 156, 3) := dk_184 0 156 (dk_at dksX4_number_2 0 rfl rfl)
theorem dX4_number_50 : decode cX4_number 50 = .ok (.ifCond .eq 40, 3) := dk_153 0 40 (dk_at dksX4_number_2 3 rfl rfl)
theorem dX4_number_53 : decode cX4_number 53 = .ok (.iload_n 2, 1) := dk_28 (dk_at dksX4_number_2 6 rfl rfl)
theorem dX4_number_54 : decode cX4_number 54 = .ok (.sipush 1000, 3) := dk_17 3 232 (dk_at dksX4_number_2 7 rfl rfl)
theorem dX4_number_57 : decode cX4_number 57 = .ok (.if_icmp .le 7, 3) := dk_164 0 7 (dk_at dksX4_number_2 10 rfl rfl)
theorem dX4_number_60 : decode cX4_number 60 = .ok (.iload_n 2, 1) := dk_28 (dk_at dksX4_number_2 13 rfl rfl)
theorem dX4_number_61 : decode cX4_number 61 = .ok (.goto 15, 3) := dk_167 0 15 (dk_at dksX4_number_2 14 rfl rfl)
theorem dX4_number_64 : decode cX4_number 64 = .ok (.bipush 10, 2) := dk_16 10 (dk_at dksX4_number_2 17 rfl rfl)
theorem dX4_number_66 : decode cX4_number 66 = .ok (.iload_n 2, 1) := dk_28 (dk_at dksX4_number_2 19 rfl rfl)
theorem dX4_number_67 : decode cX4_number 67 = .ok (.imul, 1) := dk_104 (dk_at dksX4_number_2 20 rfl rfl)
theorem dX4_number_68 : decode cX4_number 68 = .ok (.aload_n 0, 1) := dk_42 (dk_at dksX4_number_2 21 rfl rfl)
theorem dX4_number_69 : decode cX4_number 69 = .ok (.invokevirtual 93, 3) := dk_182 0 93 (dk_at dksX4_number_3 0 rfl rfl)
theorem dX4_number_72 : decode cX4_number 72 = .ok (.iadd, 1) := dk_96 (dk_at dksX4_number_3 3 rfl rfl)
theorem dX4_number_73 : decode cX4_number 73 = .ok (.bipush 48, 2) := dk_16 48 (dk_at dksX4_number_3 4 rfl rfl)
theorem dX4_number_75 : decode cX4_number 75 = .ok (.isub, 1) := dk_100 (dk_at dksX4_number_3 6 rfl rfl)
theorem dX4_number_76 : decode cX4_number 76 = .ok (.istore_n 2, 1) := dk_61 (dk_at dksX4_number_3 7 rfl rfl)
theorem dX4_number_77 : decode cX4_number 77 = .ok (.aload_n 0, 1) := dk_42 (dk_at dksX4_number_3 8 rfl rfl)
theorem dX4_number_78 : decode cX4_number 78 = .ok (.dup, 1) := dk_89 (dk_at dksX4_number_3 9 rfl rfl)
theorem dX4_number_79 : decode cX4_number 79 = .ok (.getfield 21, 3) := dk_180 0 21 (dk_at dksX4_number_3 10 rfl rfl)
theorem dX4_number_82 : decode cX4_number 82 = .ok (.iconst 1, 1) := dk_4 (dk_at dksX4_number_3 13 rfl rfl)
theorem dX4_number_83 : decode cX4_number 83 = .ok (.iadd, 1) := dk_96 (dk_at dksX4_number_3 14 rfl rfl)
theorem dX4_number_84 : decode cX4_number 84 = .ok (.putfield 21, 3) := dk_181 0 21 (dk_at dksX4_number_3 15 rfl rfl)
theorem dX4_number_87 : decode cX4_number 87 = .ok (.goto (-44), 3) := dk_167 255 212 (dk_at dksX4_number_3 18 rfl rfl)
theorem dX4_number_90 : decode cX4_number 90 = .ok (.iload_n 2, 1) := dk_28 (dk_at dksX4_number_3 21 rfl rfl)
theorem dX4_number_91 : decode cX4_number 91 = .ok (.bipush 20, 2) := dk_16 20 (dk_at dksX4_number_3 22 rfl rfl)
theorem dX4_number_93 : decode cX4_number 93 = .ok (.if_icmp .le 12, 3) := dk_164 0 12 (dk_at dksX4_number_4 0 rfl rfl)
theorem dX4_number_96 : decode cX4_number 96 = .ok (.new 28, 3) := dk_187 0 28 (dk_at dksX4_number_4 3 rfl rfl)
theorem dX4_number_99 : decode cX4_number 99 = .ok (.dup, 1) := dk_89 (dk_at dksX4_number_4 6 rfl rfl)
theorem dX4_number_100 : decode cX4_number 100 = .ok (.iload_n 1, 1) := dk_27 (dk_at dksX4_number_4 7 rfl rfl)
theorem dX4_number_101 : decode cX4_number 101 = .ok (.invokespecial 30, 3) := dk_183 0 30 (dk_at dksX4_number_4 8 rfl rfl)
theorem dX4_number_104 : decode cX4_number 104 = .ok (.athrow, 1) := dk_191 (dk_at dksX4_number_4 11 rfl rfl)
theorem dX4_number_105 : decode cX4_number 105 = .ok (.iload_n 2, 1) := dk_28 (dk_at dksX4_number_4 12 rfl rfl)
theorem dX4_number_106 : decode cX4_number 106 = .ok (.ireturn, 1) := dk_172 (dk_at dksX4_number_4 13 rfl rfl)
abbrev cX4_once : ByteArray := prog_21_method_20_code
def yX4_once : MethodName := ⟨RX4, "once", "(II)V"⟩
def dkwX4_once_0 : List UInt8 := [42, 27, 181, 0, 21, 42, 28, 181, 0, 64, 42, 182, 0, 113, 62, 177]
abbrev dktX4_once_0 : List UInt8 := dkwX4_once_0 ++ []
theorem dksX4_once_0 : cX4_once.data.toList.drop 0 = dktX4_once_0 := by decide +kernel
theorem dX4_once_0 : decode cX4_once 0 = .ok (.aload_n 0, 1) := dk_42 (dk_at dksX4_once_0 0 rfl rfl)
theorem dX4_once_1 : decode cX4_once 1 = .ok (.iload_n 1, 1) := dk_27 (dk_at dksX4_once_0 1 rfl rfl)
theorem dX4_once_2 : decode cX4_once 2 = .ok (.putfield 21, 3) := dk_181 0 21 (dk_at dksX4_once_0 2 rfl rfl)
theorem dX4_once_5 : decode cX4_once 5 = .ok (.aload_n 0, 1) := dk_42 (dk_at dksX4_once_0 5 rfl rfl)
theorem dX4_once_6 : decode cX4_once 6 = .ok (.iload_n 2, 1) := dk_28 (dk_at dksX4_once_0 6 rfl rfl)
theorem dX4_once_7 : decode cX4_once 7 = .ok (.putfield 64, 3) := dk_181 0 64 (dk_at dksX4_once_0 7 rfl rfl)
theorem dX4_once_10 : decode cX4_once 10 = .ok (.aload_n 0, 1) := dk_42 (dk_at dksX4_once_0 10 rfl rfl)
theorem dX4_once_11 : decode cX4_once 11 = .ok (.invokevirtual 113, 3) := dk_182 0 113 (dk_at dksX4_once_0 11 rfl rfl)
theorem dX4_once_14 : decode cX4_once 14 = .ok (.istore_n 3, 1) := dk_62 (dk_at dksX4_once_0 14 rfl rfl)
theorem dX4_once_15 : decode cX4_once 15 = .ok (.return_, 1) := dk_177 (dk_at dksX4_once_0 15 rfl rfl)
abbrev cX4_repeat : ByteArray := prog_21_method_21_code
def yX4_repeat : MethodName := ⟨RX4, "repeat", "(IIIIZ)V"⟩
def dkwX4_repeat_4 : List UInt8 := [28, 182, 0, 124, 132, 7, 1, 167, 255, 199, 42, 21, 6, 21, 4, 29, 100, 182, 0, 163, 177]
abbrev dktX4_repeat_4 : List UInt8 := dkwX4_repeat_4 ++ []
def dkwX4_repeat_3 : List UInt8 := [2, 79, 42, 180, 0, 33, 180, 0, 96, 21, 8, 21, 5, 153, 0, 7, 4, 167, 0, 4, 3, 79, 42, 27]
abbrev dktX4_repeat_3 : List UInt8 := dkwX4_repeat_3 ++ dktX4_repeat_4
def dkwX4_repeat_2 : List UInt8 := [21, 4, 162, 0, 56, 42, 16, 7, 3, 3, 182, 0, 87, 54, 8, 42, 180, 0, 33, 180, 0, 100, 21, 8]
abbrev dktX4_repeat_2 : List UInt8 := dkwX4_repeat_2 ++ dktX4_repeat_3
def dkwX4_repeat_1 : List UInt8 := [156, 0, 12, 42, 27, 28, 21, 5, 182, 0, 159, 177, 42, 182, 0, 103, 54, 6, 29, 54, 7, 21, 7]
abbrev dktX4_repeat_1 : List UInt8 := dkwX4_repeat_1 ++ dktX4_repeat_2
def dkwX4_repeat_0 : List UInt8 := [3, 54, 6, 21, 6, 29, 162, 0, 15, 42, 27, 28, 182, 0, 124, 132, 6, 1, 167, 255, 241, 21, 4]
abbrev dktX4_repeat_0 : List UInt8 := dkwX4_repeat_0 ++ dktX4_repeat_1
theorem dksX4_repeat_0 : cX4_repeat.data.toList.drop 0 = dktX4_repeat_0 := by decide +kernel
theorem dksX4_repeat_1 : cX4_repeat.data.toList.drop 23 = dktX4_repeat_1 := dk_seg dksX4_repeat_0 23 rfl rfl
theorem dksX4_repeat_2 : cX4_repeat.data.toList.drop 46 = dktX4_repeat_2 := dk_seg dksX4_repeat_1 23 rfl rfl
theorem dksX4_repeat_3 : cX4_repeat.data.toList.drop 70 = dktX4_repeat_3 := dk_seg dksX4_repeat_2 24 rfl rfl
theorem dksX4_repeat_4 : cX4_repeat.data.toList.drop 94 = dktX4_repeat_4 := dk_seg dksX4_repeat_3 24 rfl rfl
theorem dX4_repeat_0 : decode cX4_repeat 0 = .ok (.iconst 0, 1) := dk_3 (dk_at dksX4_repeat_0 0 rfl rfl)
theorem dX4_repeat_1 : decode cX4_repeat 1 = .ok (.istore 6, 2) := dk_54 6 (dk_at dksX4_repeat_0 1 rfl rfl)
theorem dX4_repeat_3 : decode cX4_repeat 3 = .ok (.iload 6, 2) := dk_21 6 (dk_at dksX4_repeat_0 3 rfl rfl)
theorem dX4_repeat_5 : decode cX4_repeat 5 = .ok (.iload_n 3, 1) := dk_29 (dk_at dksX4_repeat_0 5 rfl rfl)
theorem dX4_repeat_6 : decode cX4_repeat 6 = .ok (.if_icmp .ge 15, 3) := dk_162 0 15 (dk_at dksX4_repeat_0 6 rfl rfl)
theorem dX4_repeat_9 : decode cX4_repeat 9 = .ok (.aload_n 0, 1) := dk_42 (dk_at dksX4_repeat_0 9 rfl rfl)
theorem dX4_repeat_10 : decode cX4_repeat 10 = .ok (.iload_n 1, 1) := dk_27 (dk_at dksX4_repeat_0 10 rfl rfl)
theorem dX4_repeat_11 : decode cX4_repeat 11 = .ok (.iload_n 2, 1) := dk_28 (dk_at dksX4_repeat_0 11 rfl rfl)
theorem dX4_repeat_12 : decode cX4_repeat 12 = .ok (.invokevirtual 124, 3) := dk_182 0 124 (dk_at dksX4_repeat_0 12 rfl rfl)
theorem dX4_repeat_15 : decode cX4_repeat 15 = .ok (.iinc 6 1, 3) := dk_132 6 1 (dk_at dksX4_repeat_0 15 rfl rfl)
theorem dX4_repeat_18 : decode cX4_repeat 18 = .ok (.goto (-15), 3) := dk_167 255 241 (dk_at dksX4_repeat_0 18 rfl rfl)
theorem dX4_repeat_21 : decode cX4_repeat 21 = .ok (.iload 4, 2) := dk_21 4 (dk_at dksX4_repeat_0 21 rfl rfl)
theorem dX4_repeat_23 : decode cX4_repeat 23 = .ok (.ifCond .ge 12, 3) := dk_156 0 12 (dk_at dksX4_repeat_1 0 rfl rfl)
theorem dX4_repeat_26 : decode cX4_repeat 26 = .ok (.aload_n 0, 1) := dk_42 (dk_at dksX4_repeat_1 3 rfl rfl)
theorem dX4_repeat_27 : decode cX4_repeat 27 = .ok (.iload_n 1, 1) := dk_27 (dk_at dksX4_repeat_1 4 rfl rfl)
theorem dX4_repeat_28 : decode cX4_repeat 28 = .ok (.iload_n 2, 1) := dk_28 (dk_at dksX4_repeat_1 5 rfl rfl)
theorem dX4_repeat_29 : decode cX4_repeat 29 = .ok (.iload 5, 2) := dk_21 5 (dk_at dksX4_repeat_1 6 rfl rfl)
theorem dX4_repeat_31 : decode cX4_repeat 31 = .ok (.invokevirtual 159, 3) := dk_182 0 159 (dk_at dksX4_repeat_1 8 rfl rfl)
theorem dX4_repeat_34 : decode cX4_repeat 34 = .ok (.return_, 1) := dk_177 (dk_at dksX4_repeat_1 11 rfl rfl)
theorem dX4_repeat_35 : decode cX4_repeat 35 = .ok (.aload_n 0, 1) := dk_42 (dk_at dksX4_repeat_1 12 rfl rfl)
theorem dX4_repeat_36 : decode cX4_repeat 36 = .ok (.invokevirtual 103, 3) := dk_182 0 103 (dk_at dksX4_repeat_1 13 rfl rfl)
theorem dX4_repeat_39 : decode cX4_repeat 39 = .ok (.istore 6, 2) := dk_54 6 (dk_at dksX4_repeat_1 16 rfl rfl)
theorem dX4_repeat_41 : decode cX4_repeat 41 = .ok (.iload_n 3, 1) := dk_29 (dk_at dksX4_repeat_1 18 rfl rfl)
theorem dX4_repeat_42 : decode cX4_repeat 42 = .ok (.istore 7, 2) := dk_54 7 (dk_at dksX4_repeat_1 19 rfl rfl)
theorem dX4_repeat_44 : decode cX4_repeat 44 = .ok (.iload 7, 2) := dk_21 7 (dk_at dksX4_repeat_1 21 rfl rfl)
theorem dX4_repeat_46 : decode cX4_repeat 46 = .ok (.iload 4, 2) := dk_21 4 (dk_at dksX4_repeat_2 0 rfl rfl)
theorem dX4_repeat_48 : decode cX4_repeat 48 = .ok (.if_icmp .ge 56, 3) := dk_162 0 56 (dk_at dksX4_repeat_2 2 rfl rfl)
theorem dX4_repeat_51 : decode cX4_repeat 51 = .ok (.aload_n 0, 1) := dk_42 (dk_at dksX4_repeat_2 5 rfl rfl)
theorem dX4_repeat_52 : decode cX4_repeat 52 = .ok (.bipush 7, 2) := dk_16 7 (dk_at dksX4_repeat_2 6 rfl rfl)
theorem dX4_repeat_54 : decode cX4_repeat 54 = .ok (.iconst 0, 1) := dk_3 (dk_at dksX4_repeat_2 8 rfl rfl)
theorem dX4_repeat_55 : decode cX4_repeat 55 = .ok (.iconst 0, 1) := dk_3 (dk_at dksX4_repeat_2 9 rfl rfl)
theorem dX4_repeat_56 : decode cX4_repeat 56 = .ok (.invokevirtual 87, 3) := dk_182 0 87 (dk_at dksX4_repeat_2 10 rfl rfl)
theorem dX4_repeat_59 : decode cX4_repeat 59 = .ok (.istore 8, 2) := dk_54 8 (dk_at dksX4_repeat_2 13 rfl rfl)
theorem dX4_repeat_61 : decode cX4_repeat 61 = .ok (.aload_n 0, 1) := dk_42 (dk_at dksX4_repeat_2 15 rfl rfl)
theorem dX4_repeat_62 : decode cX4_repeat 62 = .ok (.getfield 33, 3) := dk_180 0 33 (dk_at dksX4_repeat_2 16 rfl rfl)
theorem dX4_repeat_65 : decode cX4_repeat 65 = .ok (.getfield 100, 3) := dk_180 0 100 (dk_at dksX4_repeat_2 19 rfl rfl)
theorem dX4_repeat_68 : decode cX4_repeat 68 = .ok (.iload 8, 2) := dk_21 8 (dk_at dksX4_repeat_2 22 rfl rfl)
theorem dX4_repeat_70 : decode cX4_repeat 70 = .ok (.iconst (-1), 1) := dk_2 (dk_at dksX4_repeat_3 0 rfl rfl)
theorem dX4_repeat_71 : decode cX4_repeat 71 = .ok (.iastore, 1) := dk_79 (dk_at dksX4_repeat_3 1 rfl rfl)
theorem dX4_repeat_72 : decode cX4_repeat 72 = .ok (.aload_n 0, 1) := dk_42 (dk_at dksX4_repeat_3 2 rfl rfl)
theorem dX4_repeat_73 : decode cX4_repeat 73 = .ok (.getfield 33, 3) := dk_180 0 33 (dk_at dksX4_repeat_3 3 rfl rfl)
theorem dX4_repeat_76 : decode cX4_repeat 76 = .ok (.getfield 96, 3) := dk_180 0 96 (dk_at dksX4_repeat_3 6 rfl rfl)
theorem dX4_repeat_79 : decode cX4_repeat 79 = .ok (.iload 8, 2) := dk_21 8 (dk_at dksX4_repeat_3 9 rfl rfl)
theorem dX4_repeat_81 : decode cX4_repeat 81 = .ok (.iload 5, 2) := dk_21 5 (dk_at dksX4_repeat_3 11 rfl rfl)
theorem dX4_repeat_83 : decode cX4_repeat 83 = .ok (.ifCond .eq 7, 3) := dk_153 0 7 (dk_at dksX4_repeat_3 13 rfl rfl)
theorem dX4_repeat_86 : decode cX4_repeat 86 = .ok (.iconst 1, 1) := dk_4 (dk_at dksX4_repeat_3 16 rfl rfl)
theorem dX4_repeat_87 : decode cX4_repeat 87 = .ok (.goto 4, 3) := dk_167 0 4 (dk_at dksX4_repeat_3 17 rfl rfl)
theorem dX4_repeat_90 : decode cX4_repeat 90 = .ok (.iconst 0, 1) := dk_3 (dk_at dksX4_repeat_3 20 rfl rfl)
theorem dX4_repeat_91 : decode cX4_repeat 91 = .ok (.iastore, 1) := dk_79 (dk_at dksX4_repeat_3 21 rfl rfl)
theorem dX4_repeat_92 : decode cX4_repeat 92 = .ok (.aload_n 0, 1) := dk_42 (dk_at dksX4_repeat_3 22 rfl rfl)
theorem dX4_repeat_93 : decode cX4_repeat 93 = .ok (.iload_n 1, 1) := dk_27 (dk_at dksX4_repeat_3 23 rfl rfl)
theorem dX4_repeat_94 : decode cX4_repeat 94 = .ok (.iload_n 2, 1) := dk_28 (dk_at dksX4_repeat_4 0 rfl rfl)
theorem dX4_repeat_95 : decode cX4_repeat 95 = .ok (.invokevirtual 124, 3) := dk_182 0 124 (dk_at dksX4_repeat_4 1 rfl rfl)
theorem dX4_repeat_98 : decode cX4_repeat 98 = .ok (.iinc 7 1, 3) := dk_132 7 1 (dk_at dksX4_repeat_4 4 rfl rfl)
theorem dX4_repeat_101 : decode cX4_repeat 101 = .ok (.goto (-57), 3) := dk_167 255 199 (dk_at dksX4_repeat_4 7 rfl rfl)
theorem dX4_repeat_104 : decode cX4_repeat 104 = .ok (.aload_n 0, 1) := dk_42 (dk_at dksX4_repeat_4 10 rfl rfl)
theorem dX4_repeat_105 : decode cX4_repeat 105 = .ok (.iload 6, 2) := dk_21 6 (dk_at dksX4_repeat_4 11 rfl rfl)
theorem dX4_repeat_107 : decode cX4_repeat 107 = .ok (.iload 4, 2) := dk_21 4 (dk_at dksX4_repeat_4 13 rfl rfl)
theorem dX4_repeat_109 : decode cX4_repeat 109 = .ok (.iload_n 3, 1) := dk_29 (dk_at dksX4_repeat_4 15 rfl rfl)
theorem dX4_repeat_110 : decode cX4_repeat 110 = .ok (.isub, 1) := dk_100 (dk_at dksX4_repeat_4 16 rfl rfl)
theorem dX4_repeat_111 : decode cX4_repeat 111 = .ok (.invokevirtual 163, 3) := dk_182 0 163 (dk_at dksX4_repeat_4 17 rfl rfl)
theorem dX4_repeat_114 : decode cX4_repeat 114 = .ok (.return_, 1) := dk_177 (dk_at dksX4_repeat_4 20 rfl rfl)
abbrev cX4_star : ByteArray := prog_21_method_22_code
def yX4_star : MethodName := ⟨RX4, "sta\x72", "(IIZ)V"⟩
def dkwX4_star_3 : List UInt8 := [42, 182, 0, 103, 29, 182, 0, 175, 177]
abbrev dktX4_star_3 : List UInt8 := dkwX4_star_3 ++ []
def dkwX4_star_2 : List UInt8 := [42, 180, 0, 33, 42, 180, 0, 33, 180, 0, 169, 21, 5, 46, 181, 0, 172, 42, 21, 4, 21, 4, 4, 96]
abbrev dktX4_star_2 : List UInt8 := dkwX4_star_2 ++ dktX4_star_3
def dkwX4_star_1 : List UInt8 := [3, 182, 0, 87, 54, 6, 42, 27, 28, 182, 0, 124, 42, 16, 15, 21, 5, 21, 4, 182, 0, 87, 54, 7]
abbrev dktX4_star_1 : List UInt8 := dkwX4_star_1 ++ dktX4_star_2
def dkwX4_star_0 : List UInt8 := [42, 16, 7, 3, 3, 182, 0, 87, 54, 4, 42, 180, 0, 33, 182, 0, 166, 54, 5, 42, 16, 14, 21, 5]
abbrev dktX4_star_0 : List UInt8 := dkwX4_star_0 ++ dktX4_star_1
theorem dksX4_star_0 : cX4_star.data.toList.drop 0 = dktX4_star_0 := by decide +kernel
theorem dksX4_star_1 : cX4_star.data.toList.drop 24 = dktX4_star_1 := dk_seg dksX4_star_0 24 rfl rfl
theorem dksX4_star_2 : cX4_star.data.toList.drop 48 = dktX4_star_2 := dk_seg dksX4_star_1 24 rfl rfl
theorem dksX4_star_3 : cX4_star.data.toList.drop 72 = dktX4_star_3 := dk_seg dksX4_star_2 24 rfl rfl
theorem dX4_star_0 : decode cX4_star 0 = .ok (.aload_n 0, 1) := dk_42 (dk_at dksX4_star_0 0 rfl rfl)
theorem dX4_star_1 : decode cX4_star 1 = .ok (.bipush 7, 2) := dk_16 7 (dk_at dksX4_star_0 1 rfl rfl)
theorem dX4_star_3 : decode cX4_star 3 = .ok (.iconst 0, 1) := dk_3 (dk_at dksX4_star_0 3 rfl rfl)
theorem dX4_star_4 : decode cX4_star 4 = .ok (.iconst 0, 1) := dk_3 (dk_at dksX4_star_0 4 rfl rfl)
theorem dX4_star_5 : decode cX4_star 5 = .ok (.invokevirtual 87, 3) := dk_182 0 87 (dk_at dksX4_star_0 5 rfl rfl)
theorem dX4_star_8 : decode cX4_star 8 = .ok (.istore 4, 2) := dk_54 4 (dk_at dksX4_star_0 8 rfl rfl)
theorem dX4_star_10 : decode cX4_star 10 = .ok (.aload_n 0, 1) := dk_42 (dk_at dksX4_star_0 10 rfl rfl)
theorem dX4_star_11 : decode cX4_star 11 = .ok (.getfield 33, 3) := dk_180 0 33 (dk_at dksX4_star_0 11 rfl rfl)
theorem dX4_star_14 : decode cX4_star 14 = .ok (.invokevirtual 166, 3) := dk_182 0 166 (dk_at dksX4_star_0 14 rfl rfl)
theorem dX4_star_17 : decode cX4_star 17 = .ok (.istore 5, 2) := dk_54 5 (dk_at dksX4_star_0 17 rfl rfl)
theorem dX4_star_19 : decode cX4_star 19 = .ok (.aload_n 0, 1) := dk_42 (dk_at dksX4_star_0 19 rfl rfl)
theorem dX4_star_20 : decode cX4_star 20 = .ok (.bipush 14, 2) := dk_16 14 (dk_at dksX4_star_0 20 rfl rfl)
theorem dX4_star_22 : decode cX4_star 22 = .ok (.iload 5, 2) := dk_21 5 (dk_at dksX4_star_0 22 rfl rfl)
theorem dX4_star_24 : decode cX4_star 24 = .ok (.iconst 0, 1) := dk_3 (dk_at dksX4_star_1 0 rfl rfl)
theorem dX4_star_25 : decode cX4_star 25 = .ok (.invokevirtual 87, 3) := dk_182 0 87 (dk_at dksX4_star_1 1 rfl rfl)
theorem dX4_star_28 : decode cX4_star 28 = .ok (.istore 6, 2) := dk_54 6 (dk_at dksX4_star_1 4 rfl rfl)
theorem dX4_star_30 : decode cX4_star 30 = .ok (.aload_n 0, 1) := dk_42 (dk_at dksX4_star_1 6 rfl rfl)
theorem dX4_star_31 : decode cX4_star 31 = .ok (.iload_n 1, 1) := dk_27 (dk_at dksX4_star_1 7 rfl rfl)
theorem dX4_star_32 : decode cX4_star 32 = .ok (.iload_n 2, 1) := dk_28 (dk_at dksX4_star_1 8 rfl rfl)
theorem dX4_star_33 : decode cX4_star 33 = .ok (.invokevirtual 124, 3) := dk_182 0 124 (dk_at dksX4_star_1 9 rfl rfl)
theorem dX4_star_36 : decode cX4_star 36 = .ok (.aload_n 0, 1) := dk_42 (dk_at dksX4_star_1 12 rfl rfl)
theorem dX4_star_37 : decode cX4_star 37 = .ok (.bipush 15, 2) := dk_16 15 (dk_at dksX4_star_1 13 rfl rfl)
theorem dX4_star_39 : decode cX4_star 39 = .ok (.iload 5, 2) := dk_21 5 (dk_at dksX4_star_1 15 rfl rfl)
theorem dX4_star_41 : decode cX4_star 41 = .ok (.iload 4, 2) := dk_21 4 (dk_at dksX4_star_1 17 rfl rfl)
theorem dX4_star_43 : decode cX4_star 43 = .ok (.invokevirtual 87, 3) := dk_182 0 87 (dk_at dksX4_star_1 19 rfl rfl)
theorem dX4_star_46 : decode cX4_star 46 = .ok (.istore 7, 2) := dk_54 7 (dk_at dksX4_star_1 22 rfl rfl)
theorem dX4_star_48 : decode cX4_star 48 = .ok (.aload_n 0, 1) := dk_42 (dk_at dksX4_star_2 0 rfl rfl)
theorem dX4_star_49 : decode cX4_star 49 = .ok (.getfield 33, 3) := dk_180 0 33 (dk_at dksX4_star_2 1 rfl rfl)
theorem dX4_star_52 : decode cX4_star 52 = .ok (.aload_n 0, 1) := dk_42 (dk_at dksX4_star_2 4 rfl rfl)
theorem dX4_star_53 : decode cX4_star 53 = .ok (.getfield 33, 3) := dk_180 0 33 (dk_at dksX4_star_2 5 rfl rfl)
theorem dX4_star_56 : decode cX4_star 56 = .ok (.getfield 169, 3) := dk_180 0 169 (dk_at dksX4_star_2 8 rfl rfl)
theorem dX4_star_59 : decode cX4_star 59 = .ok (.iload 5, 2) := dk_21 5 (dk_at dksX4_star_2 11 rfl rfl)
theorem dX4_star_61 : decode cX4_star 61 = .ok (.iaload, 1) := dk_46 (dk_at dksX4_star_2 13 rfl rfl)
theorem dX4_star_62 : decode cX4_star 62 = .ok (.putfield 172, 3) := dk_181 0 172 (dk_at dksX4_star_2 14 rfl rfl)
theorem dX4_star_65 : decode cX4_star 65 = .ok (.aload_n 0, 1) := dk_42 (dk_at dksX4_star_2 17 rfl rfl)
theorem dX4_star_66 : decode cX4_star 66 = .ok (.iload 4, 2) := dk_21 4 (dk_at dksX4_star_2 18 rfl rfl)
theorem dX4_star_68 : decode cX4_star 68 = .ok (.iload 4, 2) := dk_21 4 (dk_at dksX4_star_2 20 rfl rfl)
theorem dX4_star_70 : decode cX4_star 70 = .ok (.iconst 1, 1) := dk_4 (dk_at dksX4_star_2 22 rfl rfl)
theorem dX4_star_71 : decode cX4_star 71 = .ok (.iadd, 1) := dk_96 (dk_at dksX4_star_2 23 rfl rfl)
theorem dX4_star_72 : decode cX4_star 72 = .ok (.aload_n 0, 1) := dk_42 (dk_at dksX4_star_3 0 rfl rfl)
theorem dX4_star_73 : decode cX4_star 73 = .ok (.invokevirtual 103, 3) := dk_182 0 103 (dk_at dksX4_star_3 1 rfl rfl)
theorem dX4_star_76 : decode cX4_star 76 = .ok (.iload_n 3, 1) := dk_29 (dk_at dksX4_star_3 4 rfl rfl)
theorem dX4_star_77 : decode cX4_star 77 = .ok (.invokevirtual 175, 3) := dk_182 0 175 (dk_at dksX4_star_3 5 rfl rfl)
theorem dX4_star_80 : decode cX4_star 80 = .ok (.return_, 1) := dk_177 (dk_at dksX4_star_3 8 rfl rfl)
abbrev cX4_set : ByteArray := prog_21_method_23_code
def yX4_set : MethodName := ⟨RX4, "set", "(IIIZ)V"⟩
def dkwX4_set_1 : List UInt8 := [180, 0, 100, 27, 21, 4, 153, 0, 7, 28, 167, 0, 4, 29, 79, 177]
abbrev dktX4_set_1 : List UInt8 := dkwX4_set_1 ++ []
def dkwX4_set_0 : List UInt8 := [42, 180, 0, 33, 180, 0, 96, 27, 21, 4, 153, 0, 7, 29, 167, 0, 4, 28, 79, 42, 180, 0, 33]
abbrev dktX4_set_0 : List UInt8 := dkwX4_set_0 ++ dktX4_set_1
theorem dksX4_set_0 : cX4_set.data.toList.drop 0 = dktX4_set_0 := by decide +kernel
theorem dksX4_set_1 : cX4_set.data.toList.drop 23 = dktX4_set_1 := dk_seg dksX4_set_0 23 rfl rfl
theorem dX4_set_0 : decode cX4_set 0 = .ok (.aload_n 0, 1) := dk_42 (dk_at dksX4_set_0 0 rfl rfl)
theorem dX4_set_1 : decode cX4_set 1 = .ok (.getfield 33, 3) := dk_180 0 33 (dk_at dksX4_set_0 1 rfl rfl)
theorem dX4_set_4 : decode cX4_set 4 = .ok (.getfield 96, 3) := dk_180 0 96 (dk_at dksX4_set_0 4 rfl rfl)
theorem dX4_set_7 : decode cX4_set 7 = .ok (.iload_n 1, 1) := dk_27 (dk_at dksX4_set_0 7 rfl rfl)
theorem dX4_set_8 : decode cX4_set 8 = .ok (.iload 4, 2) := dk_21 4 (dk_at dksX4_set_0 8 rfl rfl)
theorem dX4_set_10 : decode cX4_set 10 = .ok (.ifCond .eq 7, 3) := dk_153 0 7 (dk_at dksX4_set_0 10 rfl rfl)
theorem dX4_set_13 : decode cX4_set 13 = .ok (.iload_n 3, 1) := dk_29 (dk_at dksX4_set_0 13 rfl rfl)
theorem dX4_set_14 : decode cX4_set 14 = .ok (.goto 4, 3) := dk_167 0 4 (dk_at dksX4_set_0 14 rfl rfl)
theorem dX4_set_17 : decode cX4_set 17 = .ok (.iload_n 2, 1) := dk_28 (dk_at dksX4_set_0 17 rfl rfl)
theorem dX4_set_18 : decode cX4_set 18 = .ok (.iastore, 1) := dk_79 (dk_at dksX4_set_0 18 rfl rfl)
theorem dX4_set_19 : decode cX4_set 19 = .ok (.aload_n 0, 1) := dk_42 (dk_at dksX4_set_0 19 rfl rfl)
theorem dX4_set_20 : decode cX4_set 20 = .ok (.getfield 33, 3) := dk_180 0 33 (dk_at dksX4_set_0 20 rfl rfl)
theorem dX4_set_23 : decode cX4_set 23 = .ok (.getfield 100, 3) := dk_180 0 100 (dk_at dksX4_set_1 0 rfl rfl)
theorem dX4_set_26 : decode cX4_set 26 = .ok (.iload_n 1, 1) := dk_27 (dk_at dksX4_set_1 3 rfl rfl)
theorem dX4_set_27 : decode cX4_set 27 = .ok (.iload 4, 2) := dk_21 4 (dk_at dksX4_set_1 4 rfl rfl)
theorem dX4_set_29 : decode cX4_set 29 = .ok (.ifCond .eq 7, 3) := dk_153 0 7 (dk_at dksX4_set_1 6 rfl rfl)
theorem dX4_set_32 : decode cX4_set 32 = .ok (.iload_n 2, 1) := dk_28 (dk_at dksX4_set_1 9 rfl rfl)
theorem dX4_set_33 : decode cX4_set 33 = .ok (.goto 4, 3) := dk_167 0 4 (dk_at dksX4_set_1 10 rfl rfl)
theorem dX4_set_36 : decode cX4_set 36 = .ok (.iload_n 3, 1) := dk_29 (dk_at dksX4_set_1 13 rfl rfl)
theorem dX4_set_37 : decode cX4_set 37 = .ok (.iastore, 1) := dk_79 (dk_at dksX4_set_1 14 rfl rfl)
theorem dX4_set_38 : decode cX4_set 38 = .ok (.return_, 1) := dk_177 (dk_at dksX4_set_1 15 rfl rfl)
abbrev cX4_ends : ByteArray := prog_21_method_24_code
def yX4_ends : MethodName := ⟨RX4, "ends", "(II)V"⟩
def dkwX4_ends_3 : List UInt8 := [46, 4, 160, 0, 7, 4, 167, 0, 4, 3, 182, 0, 175, 132, 4, 255, 132, 5, 1, 167, 255, 177, 177]
abbrev dktX4_ends_3 : List UInt8 := dkwX4_ends_3 ++ []
def dkwX4_ends_2 : List UInt8 := [2, 159, 0, 6, 167, 0, 36, 42, 21, 5, 21, 5, 4, 96, 29, 42, 180, 0, 33, 180, 0, 96, 21, 5]
abbrev dktX4_ends_2 : List UInt8 := dkwX4_ends_2 ++ dktX4_ends_3
def dkwX4_ends_1 : List UInt8 := [180, 0, 33, 180, 0, 178, 21, 5, 46, 16, 7, 160, 0, 53, 42, 180, 0, 33, 180, 0, 100, 21, 5, 46]
abbrev dktX4_ends_1 : List UInt8 := dkwX4_ends_1 ++ dktX4_ends_2
def dkwX4_ends_0 : List UInt8 := [42, 182, 0, 103, 62, 28, 54, 4, 27, 54, 5, 21, 5, 29, 162, 0, 79, 21, 4, 158, 0, 74, 42]
abbrev dktX4_ends_0 : List UInt8 := dkwX4_ends_0 ++ dktX4_ends_1
theorem dksX4_ends_0 : cX4_ends.data.toList.drop 0 = dktX4_ends_0 := by decide +kernel
theorem dksX4_ends_1 : cX4_ends.data.toList.drop 23 = dktX4_ends_1 := dk_seg dksX4_ends_0 23 rfl rfl
theorem dksX4_ends_2 : cX4_ends.data.toList.drop 47 = dktX4_ends_2 := dk_seg dksX4_ends_1 24 rfl rfl
theorem dksX4_ends_3 : cX4_ends.data.toList.drop 71 = dktX4_ends_3 := dk_seg dksX4_ends_2 24 rfl rfl
theorem dX4_ends_0 : decode cX4_ends 0 = .ok (.aload_n 0, 1) := dk_42 (dk_at dksX4_ends_0 0 rfl rfl)
theorem dX4_ends_1 : decode cX4_ends 1 = .ok (.invokevirtual 103, 3) := dk_182 0 103 (dk_at dksX4_ends_0 1 rfl rfl)
theorem dX4_ends_4 : decode cX4_ends 4 = .ok (.istore_n 3, 1) := dk_62 (dk_at dksX4_ends_0 4 rfl rfl)
theorem dX4_ends_5 : decode cX4_ends 5 = .ok (.iload_n 2, 1) := dk_28 (dk_at dksX4_ends_0 5 rfl rfl)
theorem dX4_ends_6 : decode cX4_ends 6 = .ok (.istore 4, 2) := dk_54 4 (dk_at dksX4_ends_0 6 rfl rfl)
theorem dX4_ends_8 : decode cX4_ends 8 = .ok (.iload_n 1, 1) := dk_27 (dk_at dksX4_ends_0 8 rfl rfl)
theorem dX4_ends_9 : decode cX4_ends 9 = .ok (.istore 5, 2) := dk_54 5 (dk_at dksX4_ends_0 9 rfl rfl)
theorem dX4_ends_11 : decode cX4_ends 11 = .ok (.iload 5, 2) := dk_21 5 (dk_at dksX4_ends_0 11 rfl rfl)
theorem dX4_ends_13 : decode cX4_ends 13 = .ok (.iload_n 3, 1) := dk_29 (dk_at dksX4_ends_0 13 rfl rfl)
theorem dX4_ends_14 : decode cX4_ends 14 = .ok (.if_icmp .ge 79, 3) := dk_162 0 79 (dk_at dksX4_ends_0 14 rfl rfl)
theorem dX4_ends_17 : decode cX4_ends 17 = .ok (.iload 4, 2) := dk_21 4 (dk_at dksX4_ends_0 17 rfl rfl)
theorem dX4_ends_19 : decode cX4_ends 19 = .ok (.ifCond .le 74, 3) := dk_158 0 74 (dk_at dksX4_ends_0 19 rfl rfl)
theorem dX4_ends_22 : decode cX4_ends 22 = .ok (.aload_n 0, 1) := dk_42 (dk_at dksX4_ends_0 22 rfl rfl)
theorem dX4_ends_23 : decode cX4_ends 23 = .ok (.getfield 33, 3) := dk_180 0 33 (dk_at dksX4_ends_1 0 rfl rfl)
theorem dX4_ends_26 : decode cX4_ends 26 = .ok (.getfield 178, 3) := dk_180 0 178 (dk_at dksX4_ends_1 3 rfl rfl)
theorem dX4_ends_29 : decode cX4_ends 29 = .ok (.iload 5, 2) := dk_21 5 (dk_at dksX4_ends_1 6 rfl rfl)
theorem dX4_ends_31 : decode cX4_ends 31 = .ok (.iaload, 1) := dk_46 (dk_at dksX4_ends_1 8 rfl rfl)
theorem dX4_ends_32 : decode cX4_ends 32 = .ok (.bipush 7, 2) := dk_16 7 (dk_at dksX4_ends_1 9 rfl rfl)
theorem dX4_ends_34 : decode cX4_ends 34 = .ok (.if_icmp .ne 53, 3) := dk_160 0 53 (dk_at dksX4_ends_1 11 rfl rfl)
theorem dX4_ends_37 : decode cX4_ends 37 = .ok (.aload_n 0, 1) := dk_42 (dk_at dksX4_ends_1 14 rfl rfl)
theorem dX4_ends_38 : decode cX4_ends 38 = .ok (.getfield 33, 3) := dk_180 0 33 (dk_at dksX4_ends_1 15 rfl rfl)
theorem dX4_ends_41 : decode cX4_ends 41 = .ok (.getfield 100, 3) := dk_180 0 100 (dk_at dksX4_ends_1 18 rfl rfl)
theorem dX4_ends_44 : decode cX4_ends 44 = .ok (.iload 5, 2) := dk_21 5 (dk_at dksX4_ends_1 21 rfl rfl)
theorem dX4_ends_46 : decode cX4_ends 46 = .ok (.iaload, 1) := dk_46 (dk_at dksX4_ends_1 23 rfl rfl)
theorem dX4_ends_47 : decode cX4_ends 47 = .ok (.iconst (-1), 1) := dk_2 (dk_at dksX4_ends_2 0 rfl rfl)
theorem dX4_ends_48 : decode cX4_ends 48 = .ok (.if_icmp .eq 6, 3) := dk_159 0 6 (dk_at dksX4_ends_2 1 rfl rfl)
theorem dX4_ends_51 : decode cX4_ends 51 = .ok (.goto 36, 3) := dk_167 0 36 (dk_at dksX4_ends_2 4 rfl rfl)
theorem dX4_ends_54 : decode cX4_ends 54 = .ok (.aload_n 0, 1) := dk_42 (dk_at dksX4_ends_2 7 rfl rfl)
theorem dX4_ends_55 : decode cX4_ends 55 = .ok (.iload 5, 2) := dk_21 5 (dk_at dksX4_ends_2 8 rfl rfl)
theorem dX4_ends_57 : decode cX4_ends 57 = .ok (.iload 5, 2) := dk_21 5 (dk_at dksX4_ends_2 10 rfl rfl)
theorem dX4_ends_59 : decode cX4_ends 59 = .ok (.iconst 1, 1) := dk_4 (dk_at dksX4_ends_2 12 rfl rfl)
theorem dX4_ends_60 : decode cX4_ends 60 = .ok (.iadd, 1) := dk_96 (dk_at dksX4_ends_2 13 rfl rfl)
theorem dX4_ends_61 : decode cX4_ends 61 = .ok (.iload_n 3, 1) := dk_29 (dk_at dksX4_ends_2 14 rfl rfl)
theorem dX4_ends_62 : decode cX4_ends 62 = .ok (.aload_n 0, 1) := dk_42 (dk_at dksX4_ends_2 15 rfl rfl)
theorem dX4_ends_63 : decode cX4_ends 63 = .ok (.getfield 33, 3) := dk_180 0 33 (dk_at dksX4_ends_2 16 rfl rfl)
theorem dX4_ends_66 : decode cX4_ends 66 = .ok (.getfield 96, 3) := dk_180 0 96 (dk_at dksX4_ends_2 19 rfl rfl)
theorem dX4_ends_69 : decode cX4_ends 69 = .ok (.iload 5, 2) := dk_21 5 (dk_at dksX4_ends_2 22 rfl rfl)
theorem dX4_ends_71 : decode cX4_ends 71 = .ok (.iaload, 1) := dk_46 (dk_at dksX4_ends_3 0 rfl rfl)
theorem dX4_ends_72 : decode cX4_ends 72 = .ok (.iconst 1, 1) := dk_4 (dk_at dksX4_ends_3 1 rfl rfl)
theorem dX4_ends_73 : decode cX4_ends 73 = .ok (.if_icmp .ne 7, 3) := dk_160 0 7 (dk_at dksX4_ends_3 2 rfl rfl)
theorem dX4_ends_76 : decode cX4_ends 76 = .ok (.iconst 1, 1) := dk_4 (dk_at dksX4_ends_3 5 rfl rfl)
theorem dX4_ends_77 : decode cX4_ends 77 = .ok (.goto 4, 3) := dk_167 0 4 (dk_at dksX4_ends_3 6 rfl rfl)
theorem dX4_ends_80 : decode cX4_ends 80 = .ok (.iconst 0, 1) := dk_3 (dk_at dksX4_ends_3 9 rfl rfl)
theorem dX4_ends_81 : decode cX4_ends 81 = .ok (.invokevirtual 175, 3) := dk_182 0 175 (dk_at dksX4_ends_3 10 rfl rfl)
theorem dX4_ends_84 : decode cX4_ends 84 = .ok (.iinc 4 (-1), 3) := dk_132 4 255 (dk_at dksX4_ends_3 13 rfl rfl)
theorem dX4_ends_87 : decode cX4_ends 87 = .ok (.iinc 5 1, 3) := dk_132 5 1 (dk_at dksX4_ends_3 16 rfl rfl)
theorem dX4_ends_90 : decode cX4_ends 90 = .ok (.goto (-79), 3) := dk_167 255 177 (dk_at dksX4_ends_3 19 rfl rfl)
theorem dX4_ends_93 : decode cX4_ends 93 = .ok (.return_, 1) := dk_177 (dk_at dksX4_ends_3 22 rfl rfl)
abbrev cX4_times : ByteArray := prog_21_method_10_code
def yX4_times : MethodName := ⟨RX4, "times", "(II)I"⟩
def dkwX4_times_0 : List UInt8 := [26, 133, 27, 133, 105, 20, 0, 81, 148, 158, 0, 8, 18, 80, 167, 0, 6, 26, 27, 104, 172]
abbrev dktX4_times_0 : List UInt8 := dkwX4_times_0 ++ []
theorem dksX4_times_0 : cX4_times.data.toList.drop 0 = dktX4_times_0 := by decide +kernel
theorem dX4_times_0 : decode cX4_times 0 = .ok (.iload_n 0, 1) := dk_26 (dk_at dksX4_times_0 0 rfl rfl)
theorem dX4_times_1 : decode cX4_times 1 = .ok (.i2l, 1) := dk_133 (dk_at dksX4_times_0 1 rfl rfl)
theorem dX4_times_2 : decode cX4_times 2 = .ok (.iload_n 1, 1) := dk_27 (dk_at dksX4_times_0 2 rfl rfl)
theorem dX4_times_3 : decode cX4_times 3 = .ok (.i2l, 1) := dk_133 (dk_at dksX4_times_0 3 rfl rfl)
theorem dX4_times_4 : decode cX4_times 4 = .ok (.lmul, 1) := dk_105 (dk_at dksX4_times_0 4 rfl rfl)
theorem dX4_times_5 : decode cX4_times 5 = .ok (.ldc2_w 81, 3) := dk_20 0 81 (dk_at dksX4_times_0 5 rfl rfl)
theorem dX4_times_8 : decode cX4_times 8 = .ok (.lcmp, 1) := dk_148 (dk_at dksX4_times_0 8 rfl rfl)
theorem dX4_times_9 : decode cX4_times 9 = .ok (.ifCond .le 8, 3) := dk_158 0 8 (dk_at dksX4_times_0 9 rfl rfl)
theorem dX4_times_12 : decode cX4_times 12 = .ok (.ldc 80, 2) := dk_18 80 (dk_at dksX4_times_0 12 rfl rfl)
theorem dX4_times_14 : decode cX4_times 14 = .ok (.goto 6, 3) := dk_167 0 6 (dk_at dksX4_times_0 14 rfl rfl)
theorem dX4_times_17 : decode cX4_times 17 = .ok (.iload_n 0, 1) := dk_26 (dk_at dksX4_times_0 17 rfl rfl)
theorem dX4_times_18 : decode cX4_times 18 = .ok (.iload_n 1, 1) := dk_27 (dk_at dksX4_times_0 18 rfl rfl)
theorem dX4_times_19 : decode cX4_times 19 = .ok (.imul, 1) := dk_104 (dk_at dksX4_times_0 19 rfl rfl)
theorem dX4_times_20 : decode cX4_times 20 = .ok (.ireturn, 1) := dk_172 (dk_at dksX4_times_0 20 rfl rfl)
theorem q511 : (Jvm.Cond.initialized "LibraryDesk$PatternReade\x72") ∈ lw_all := lw_g (lw_at lw_m1 4 rfl) rfl
theorem q612 : (Jvm.Cond.instantiable "LibraryDesk$PatternReade\x72" (15 : Nat)) ∈ lw_all := lw_g (lw_at lw_m1 105 rfl) rfl
theorem q614 : (Jvm.Cond.instanceMethod ({ cls := "LibraryDesk$PatternReade\x72", name := "<init>", desc := "()V" } : Jvm.MethodName)) ∈ lw_all := lw_g (lw_at lw_m1 107 rfl) rfl
theorem q615 : (Jvm.Cond.code ({ cls := "LibraryDesk$PatternReade\x72", name := "<init>", desc := "()V" } : Jvm.MethodName) prog_21_method_1_code (1 : Nat) (Option.none : Option Jvm.ClassFile.FieldType)) ∈ lw_all := lw_g (lw_at lw_m1 108 rfl) rfl
theorem q616 : (Jvm.Cond.methodLink "LibraryDesk$PatternReade\x72" (1 : Nat) ({ cls := "java/lang/Object", name := "<init>", desc := "()V" } : Jvm.MethodName)) ∈ lw_all := lw_g (lw_at lw_m1 109 rfl) rfl
theorem q617 : (Jvm.Cond.fieldLink "LibraryDesk$PatternReade\x72" (17 : Nat) "LibraryDesk$PatternReade\x72" "text" "[B") ∈ lw_all := lw_g (lw_at lw_m1 110 rfl) rfl
theorem q618 : (Jvm.Cond.fieldLink "LibraryDesk$PatternReade\x72" (13 : Nat) "LibraryDesk$PatternReade\x72" "length" "I") ∈ lw_all := lw_g (lw_at lw_m1 111 rfl) rfl
theorem q619 : (Jvm.Cond.fieldLink "LibraryDesk$PatternReade\x72" (21 : Nat) "LibraryDesk$PatternReade\x72" "at" "I") ∈ lw_all := lw_g (lw_at lw_m1 112 rfl) rfl
theorem q620 : (Jvm.Cond.fieldLink "LibraryDesk$PatternReade\x72" (68 : Nat) "LibraryDesk$PatternReade\x72" "open" "I") ∈ lw_all := lw_g (lw_at lw_m1 113 rfl) rfl
theorem q621 : (Jvm.Cond.fieldLink "LibraryDesk$PatternReade\x72" (64 : Nat) "LibraryDesk$PatternReade\x72" "groups" "I") ∈ lw_all := lw_g (lw_at lw_m1 114 rfl) rfl
theorem q622 : (Jvm.Cond.fieldLink "LibraryDesk$PatternReade\x72" (71 : Nat) "LibraryDesk$PatternReade\x72" "ahead" "I") ∈ lw_all := lw_g (lw_at lw_m1 115 rfl) rfl
theorem q623 : (Jvm.Cond.fieldLink "LibraryDesk$PatternReade\x72" (74 : Nat) "LibraryDesk$PatternReade\x72" "alones" "I") ∈ lw_all := lw_g (lw_at lw_m1 116 rfl) rfl
theorem q624 : (Jvm.Cond.fieldLink "LibraryDesk$PatternReade\x72" (33 : Nat) "LibraryDesk$PatternReade\x72" "to" "LLibraryDesk$PatternThing;") ∈ lw_all := lw_g (lw_at lw_m1 117 rfl) rfl
theorem q625 : (Jvm.Cond.fieldLink "LibraryDesk$PatternReade\x72" (37 : Nat) "LibraryDesk$PatternReade\x72" "makes" "Z") ∈ lw_all := lw_g (lw_at lw_m1 118 rfl) rfl
theorem q626 : (Jvm.Cond.fieldLink "LibraryDesk$PatternReade\x72" (7 : Nat) "LibraryDesk$PatternReade\x72" "set" "[J") ∈ lw_all := lw_g (lw_at lw_m1 119 rfl) rfl
theorem q627 : (Jvm.Cond.fieldLink "LibraryDesk$PatternReade\x72" (134 : Nat) "LibraryDesk$PatternReade\x72" "least" "I") ∈ lw_all := lw_g (lw_at lw_m1 120 rfl) rfl
theorem q628 : (Jvm.Cond.fieldLink "LibraryDesk$PatternReade\x72" (137 : Nat) "LibraryDesk$PatternReade\x72" "most" "I") ∈ lw_all := lw_g (lw_at lw_m1 121 rfl) rfl
theorem q629 : (Jvm.Cond.fieldLink "LibraryDesk$PatternReade\x72" (140 : Nat) "LibraryDesk$PatternReade\x72" "isLazy" "Z") ∈ lw_all := lw_g (lw_at lw_m1 122 rfl) rfl
theorem q630 : (Jvm.Cond.fieldLink "LibraryDesk$PatternReade\x72" (131 : Nat) "LibraryDesk$PatternReade\x72" "isAlone" "Z") ∈ lw_all := lw_g (lw_at lw_m1 123 rfl) rfl
theorem q631 : (Jvm.Cond.fieldLink "LibraryDesk$PatternReade\x72" (128 : Nat) "LibraryDesk$PatternReade\x72" "isCounted" "Z") ∈ lw_all := lw_g (lw_at lw_m1 124 rfl) rfl
theorem q632 : (Jvm.Cond.lays "LibraryDesk$PatternReade\x72" "LibraryDesk$PatternReade\x72" "text" "[B") ∈ lw_all := lw_g (lw_at lw_m1 125 rfl) rfl
theorem q633 : (Jvm.Cond.soleField "LibraryDesk$PatternReade\x72" "text") ∈ lw_all := lw_g (lw_at lw_m1 126 rfl) rfl
theorem q634 : (Jvm.Cond.lays "LibraryDesk$PatternReade\x72" "LibraryDesk$PatternReade\x72" "length" "I") ∈ lw_all := lw_g (lw_at lw_m1 127 rfl) rfl
theorem q635 : (Jvm.Cond.soleField "LibraryDesk$PatternReade\x72" "length") ∈ lw_all := lw_g (lw_at lw_m1 128 rfl) rfl
theorem q636 : (Jvm.Cond.lays "LibraryDesk$PatternReade\x72" "LibraryDesk$PatternReade\x72" "at" "I") ∈ lw_all := lw_g (lw_at lw_m1 129 rfl) rfl
theorem q637 : (Jvm.Cond.soleField "LibraryDesk$PatternReade\x72" "at") ∈ lw_all := lw_g (lw_at lw_m1 130 rfl) rfl
theorem q638 : (Jvm.Cond.lays "LibraryDesk$PatternReade\x72" "LibraryDesk$PatternReade\x72" "open" "I") ∈ lw_all := lw_g (lw_at lw_m1 131 rfl) rfl
theorem q639 : (Jvm.Cond.soleField "LibraryDesk$PatternReade\x72" "open") ∈ lw_all := lw_g (lw_at lw_m1 132 rfl) rfl
theorem q640 : (Jvm.Cond.lays "LibraryDesk$PatternReade\x72" "LibraryDesk$PatternReade\x72" "groups" "I") ∈ lw_all := lw_g (lw_at lw_m1 133 rfl) rfl
theorem q641 : (Jvm.Cond.soleField "LibraryDesk$PatternReade\x72" "groups") ∈ lw_all := lw_g (lw_at lw_m1 134 rfl) rfl
theorem q642 : (Jvm.Cond.lays "LibraryDesk$PatternReade\x72" "LibraryDesk$PatternReade\x72" "ahead" "I") ∈ lw_all := lw_g (lw_at lw_m1 135 rfl) rfl
theorem q643 : (Jvm.Cond.soleField "LibraryDesk$PatternReade\x72" "ahead") ∈ lw_all := lw_g (lw_at lw_m1 136 rfl) rfl
theorem q644 : (Jvm.Cond.lays "LibraryDesk$PatternReade\x72" "LibraryDesk$PatternReade\x72" "alones" "I") ∈ lw_all := lw_g (lw_at lw_m1 137 rfl) rfl
theorem q645 : (Jvm.Cond.soleField "LibraryDesk$PatternReade\x72" "alones") ∈ lw_all := lw_g (lw_at lw_m1 138 rfl) rfl
theorem q646 : (Jvm.Cond.lays "LibraryDesk$PatternReade\x72" "LibraryDesk$PatternReade\x72" "to" "LLibraryDesk$PatternThing;") ∈ lw_all := lw_g (lw_at lw_m1 139 rfl) rfl
theorem q647 : (Jvm.Cond.soleField "LibraryDesk$PatternReade\x72" "to") ∈ lw_all := lw_g (lw_at lw_m1 140 rfl) rfl
theorem q648 : (Jvm.Cond.lays "LibraryDesk$PatternReade\x72" "LibraryDesk$PatternReade\x72" "makes" "Z") ∈ lw_all := lw_g (lw_at lw_m1 141 rfl) rfl
theorem q649 : (Jvm.Cond.soleField "LibraryDesk$PatternReade\x72" "makes") ∈ lw_all := lw_g (lw_at lw_m1 142 rfl) rfl
theorem q650 : (Jvm.Cond.laysFinal "LibraryDesk$PatternReade\x72" "LibraryDesk$PatternReade\x72" "set" "[J") ∈ lw_all := lw_g (lw_at lw_m1 143 rfl) rfl
theorem q651 : (Jvm.Cond.soleField "LibraryDesk$PatternReade\x72" "set") ∈ lw_all := lw_g (lw_at lw_m1 144 rfl) rfl
theorem q652 : (Jvm.Cond.lays "LibraryDesk$PatternReade\x72" "LibraryDesk$PatternReade\x72" "least" "I") ∈ lw_all := lw_g (lw_at lw_m1 145 rfl) rfl
theorem q653 : (Jvm.Cond.soleField "LibraryDesk$PatternReade\x72" "least") ∈ lw_all := lw_g (lw_at lw_m1 146 rfl) rfl
theorem q654 : (Jvm.Cond.lays "LibraryDesk$PatternReade\x72" "LibraryDesk$PatternReade\x72" "most" "I") ∈ lw_all := lw_g (lw_at lw_m1 147 rfl) rfl
theorem q655 : (Jvm.Cond.soleField "LibraryDesk$PatternReade\x72" "most") ∈ lw_all := lw_g (lw_at lw_m1 148 rfl) rfl
theorem q656 : (Jvm.Cond.lays "LibraryDesk$PatternReade\x72" "LibraryDesk$PatternReade\x72" "isLazy" "Z") ∈ lw_all := lw_g (lw_at lw_m1 149 rfl) rfl
theorem q657 : (Jvm.Cond.soleField "LibraryDesk$PatternReade\x72" "isLazy") ∈ lw_all := lw_g (lw_at lw_m1 150 rfl) rfl
theorem q658 : (Jvm.Cond.lays "LibraryDesk$PatternReade\x72" "LibraryDesk$PatternReade\x72" "isAlone" "Z") ∈ lw_all := lw_g (lw_at lw_m1 151 rfl) rfl
theorem q659 : (Jvm.Cond.soleField "LibraryDesk$PatternReade\x72" "isAlone") ∈ lw_all := lw_g (lw_at lw_m1 152 rfl) rfl
theorem q660 : (Jvm.Cond.lays "LibraryDesk$PatternReade\x72" "LibraryDesk$PatternReade\x72" "isCounted" "Z") ∈ lw_all := lw_g (lw_at lw_m1 153 rfl) rfl
theorem q661 : (Jvm.Cond.soleField "LibraryDesk$PatternReade\x72" "isCounted") ∈ lw_all := lw_g (lw_at lw_m1 154 rfl) rfl
theorem q662 : (Jvm.Cond.superclass "LibraryDesk$PatternReade\x72" "java/lang/Object") ∈ lw_all := lw_g (lw_at lw_m1 155 rfl) rfl
theorem q1649 : (Jvm.Cond.fieldLinkNest "LibraryDesk$PatternReade\x72" (178 : Nat) "LibraryDesk$PatternThing" "op" "[I" "LibraryDesk") ∈ lw_tbl := lw_at lw_m5 182 rfl
theorem q1651 : (Jvm.Cond.fieldLinkNest "LibraryDesk$PatternReade\x72" (96 : Nat) "LibraryDesk$PatternThing" "a" "[I" "LibraryDesk") ∈ lw_tbl := lw_at lw_m5 184 rfl
theorem q1654 : (Jvm.Cond.fieldLinkNest "LibraryDesk$PatternReade\x72" (100 : Nat) "LibraryDesk$PatternThing" "b" "[I" "LibraryDesk") ∈ lw_tbl := lw_at lw_m5 187 rfl
theorem q1660 : (Jvm.Cond.fieldLinkNest "LibraryDesk$PatternReade\x72" (169 : Nat) "LibraryDesk$PatternThing" "oute\x72" "[I" "LibraryDesk") ∈ lw_tbl := lw_at lw_m5 193 rfl
theorem q1663 : (Jvm.Cond.fieldLinkNest "LibraryDesk$PatternReade\x72" (172 : Nat) "LibraryDesk$PatternThing" "loop" "I" "LibraryDesk") ∈ lw_tbl := lw_at lw_m5 196 rfl
theorem q1666 : (Jvm.Cond.fieldLinkNest "LibraryDesk$PatternReade\x72" (77 : Nat) "LibraryDesk$PatternThing" "many" "I" "LibraryDesk") ∈ lw_tbl := lw_at lw_m5 199 rfl
theorem q1668 : (Jvm.Cond.fieldLinkNest "LibraryDesk$PatternReade\x72" (201 : Nat) "LibraryDesk$PatternThing" "sets" "[J" "LibraryDesk") ∈ lw_tbl := lw_at lw_m5 201 rfl
theorem q1670 : (Jvm.Cond.fieldLinkNest "LibraryDesk$PatternReade\x72" (203 : Nat) "LibraryDesk$PatternThing" "setMany" "I" "LibraryDesk") ∈ lw_tbl := lw_at lw_m5 203 rfl
theorem q1672 : (Jvm.Cond.fieldLinkNest "LibraryDesk$PatternReade\x72" (67 : Nat) "LibraryDesk$PatternThing" "groups" "I" "LibraryDesk") ∈ lw_tbl := lw_at lw_m5 205 rfl
theorem q3168 : (Jvm.Cond.privateMethod ({ cls := "LibraryDesk$PatternReade\x72", name := "read", desc := "([BILLibraryDesk$PatternThing;)V" } : Jvm.MethodName)) ∈ lw_tbl := lw_at lw_m12 21 rfl
theorem q3169 : (Jvm.Cond.instanceMethod ({ cls := "LibraryDesk$PatternReade\x72", name := "read", desc := "([BILLibraryDesk$PatternThing;)V" } : Jvm.MethodName)) ∈ lw_all := lw_g (lw_at lw_m12 22 rfl) rfl
theorem q3170 : (Jvm.Cond.code ({ cls := "LibraryDesk$PatternReade\x72", name := "read", desc := "([BILLibraryDesk$PatternThing;)V" } : Jvm.MethodName) prog_21_method_5_code (6 : Nat) (Option.none : Option Jvm.ClassFile.FieldType)) ∈ lw_all := lw_g (lw_at lw_m12 23 rfl) rfl
theorem q3171 : (Jvm.Cond.methodLink "LibraryDesk$PatternReade\x72" (41 : Nat) ({ cls := "LibraryDesk$PatternReade\x72", name := "begin", desc := "()V" } : Jvm.MethodName)) ∈ lw_all := lw_g (lw_at lw_m12 24 rfl) rfl
theorem q3172 : (Jvm.Cond.privateMethod ({ cls := "LibraryDesk$PatternReade\x72", name := "begin", desc := "()V" } : Jvm.MethodName)) ∈ lw_tbl := lw_at lw_m12 25 rfl
theorem q3173 : (Jvm.Cond.instanceMethod ({ cls := "LibraryDesk$PatternReade\x72", name := "begin", desc := "()V" } : Jvm.MethodName)) ∈ lw_all := lw_g (lw_at lw_m12 26 rfl) rfl
theorem q3174 : (Jvm.Cond.code ({ cls := "LibraryDesk$PatternReade\x72", name := "begin", desc := "()V" } : Jvm.MethodName) prog_21_method_6_code (1 : Nat) (Option.none : Option Jvm.ClassFile.FieldType)) ∈ lw_all := lw_g (lw_at lw_m12 27 rfl) rfl
theorem q3175 : (Jvm.Cond.methodLink "LibraryDesk$PatternReade\x72" (44 : Nat) ({ cls := "LibraryDesk$PatternReade\x72", name := "alternatives", desc := "()I" } : Jvm.MethodName)) ∈ lw_all := lw_g (lw_at lw_m12 28 rfl) rfl
theorem q3176 : (Jvm.Cond.privateMethod ({ cls := "LibraryDesk$PatternReade\x72", name := "alternatives", desc := "()I" } : Jvm.MethodName)) ∈ lw_tbl := lw_at lw_m12 29 rfl
theorem q3177 : (Jvm.Cond.instanceMethod ({ cls := "LibraryDesk$PatternReade\x72", name := "alternatives", desc := "()I" } : Jvm.MethodName)) ∈ lw_all := lw_g (lw_at lw_m12 30 rfl) rfl
theorem q3178 : (Jvm.Cond.code ({ cls := "LibraryDesk$PatternReade\x72", name := "alternatives", desc := "()I" } : Jvm.MethodName) prog_21_method_11_code (5 : Nat) (Option.some Jvm.ClassFile.FieldType.int)) ∈ lw_all := lw_g (lw_at lw_m12 31 rfl) rfl
theorem q3179 : (Jvm.Cond.methodLink "LibraryDesk$PatternReade\x72" (83 : Nat) ({ cls := "LibraryDesk$PatternReade\x72", name := "hasOthe\x72", desc := "()Z" } : Jvm.MethodName)) ∈ lw_all := lw_g (lw_at lw_m12 32 rfl) rfl
theorem q3180 : (Jvm.Cond.privateMethod ({ cls := "LibraryDesk$PatternReade\x72", name := "hasOthe\x72", desc := "()Z" } : Jvm.MethodName)) ∈ lw_tbl := lw_at lw_m12 33 rfl
theorem q3181 : (Jvm.Cond.instanceMethod ({ cls := "LibraryDesk$PatternReade\x72", name := "hasOthe\x72", desc := "()Z" } : Jvm.MethodName)) ∈ lw_all := lw_g (lw_at lw_m12 34 rfl) rfl
theorem q3182 : (Jvm.Cond.code ({ cls := "LibraryDesk$PatternReade\x72", name := "hasOthe\x72", desc := "()Z" } : Jvm.MethodName) prog_21_method_12_code (5 : Nat) (Option.some Jvm.ClassFile.FieldType.boolean)) ∈ lw_all := lw_g (lw_at lw_m12 35 rfl) rfl
theorem q3183 : (Jvm.Cond.methodLink "LibraryDesk$PatternReade\x72" (90 : Nat) ({ cls := "LibraryDesk$PatternReade\x72", name := "sequence", desc := "()I" } : Jvm.MethodName)) ∈ lw_all := lw_g (lw_at lw_m12 36 rfl) rfl
theorem q3184 : (Jvm.Cond.privateMethod ({ cls := "LibraryDesk$PatternReade\x72", name := "sequence", desc := "()I" } : Jvm.MethodName)) ∈ lw_tbl := lw_at lw_m12 37 rfl
theorem q3185 : (Jvm.Cond.instanceMethod ({ cls := "LibraryDesk$PatternReade\x72", name := "sequence", desc := "()I" } : Jvm.MethodName)) ∈ lw_all := lw_g (lw_at lw_m12 38 rfl) rfl
theorem q3186 : (Jvm.Cond.code ({ cls := "LibraryDesk$PatternReade\x72", name := "sequence", desc := "()I" } : Jvm.MethodName) prog_21_method_13_code (2 : Nat) (Option.some Jvm.ClassFile.FieldType.int)) ∈ lw_all := lw_g (lw_at lw_m12 39 rfl) rfl
theorem q3187 : (Jvm.Cond.methodLink "LibraryDesk$PatternReade\x72" (93 : Nat) ({ cls := "LibraryDesk$PatternReade\x72", name := "look", desc := "()I" } : Jvm.MethodName)) ∈ lw_all := lw_g (lw_at lw_m12 40 rfl) rfl
theorem q3188 : (Jvm.Cond.privateMethod ({ cls := "LibraryDesk$PatternReade\x72", name := "look", desc := "()I" } : Jvm.MethodName)) ∈ lw_tbl := lw_at lw_m12 41 rfl
theorem q3189 : (Jvm.Cond.instanceMethod ({ cls := "LibraryDesk$PatternReade\x72", name := "look", desc := "()I" } : Jvm.MethodName)) ∈ lw_all := lw_g (lw_at lw_m12 42 rfl) rfl
theorem q3190 : (Jvm.Cond.code ({ cls := "LibraryDesk$PatternReade\x72", name := "look", desc := "()I" } : Jvm.MethodName) prog_21_method_3_code (1 : Nat) (Option.some Jvm.ClassFile.FieldType.int)) ∈ lw_all := lw_g (lw_at lw_m12 43 rfl) rfl
theorem q3191 : (Jvm.Cond.methodLink "LibraryDesk$PatternReade\x72" (24 : Nat) ({ cls := "LibraryDesk$PatternReade\x72", name := "byteAt", desc := "(I)I" } : Jvm.MethodName)) ∈ lw_all := lw_g (lw_at lw_m12 44 rfl) rfl
theorem q3192 : (Jvm.Cond.privateMethod ({ cls := "LibraryDesk$PatternReade\x72", name := "byteAt", desc := "(I)I" } : Jvm.MethodName)) ∈ lw_tbl := lw_at lw_m12 45 rfl
theorem q3193 : (Jvm.Cond.instanceMethod ({ cls := "LibraryDesk$PatternReade\x72", name := "byteAt", desc := "(I)I" } : Jvm.MethodName)) ∈ lw_all := lw_g (lw_at lw_m12 46 rfl) rfl
theorem q3194 : (Jvm.Cond.code ({ cls := "LibraryDesk$PatternReade\x72", name := "byteAt", desc := "(I)I" } : Jvm.MethodName) prog_21_method_2_code (2 : Nat) (Option.some Jvm.ClassFile.FieldType.int)) ∈ lw_all := lw_g (lw_at lw_m12 47 rfl) rfl
theorem q3195 : (Jvm.Cond.methodLink "LibraryDesk$PatternReade\x72" (110 : Nat) ({ cls := "LibraryDesk$PatternReade\x72", name := "item", desc := "()I" } : Jvm.MethodName)) ∈ lw_all := lw_g (lw_at lw_m12 48 rfl) rfl
theorem q3196 : (Jvm.Cond.privateMethod ({ cls := "LibraryDesk$PatternReade\x72", name := "item", desc := "()I" } : Jvm.MethodName)) ∈ lw_tbl := lw_at lw_m12 49 rfl
theorem q3197 : (Jvm.Cond.instanceMethod ({ cls := "LibraryDesk$PatternReade\x72", name := "item", desc := "()I" } : Jvm.MethodName)) ∈ lw_all := lw_g (lw_at lw_m12 50 rfl) rfl
theorem q3198 : (Jvm.Cond.code ({ cls := "LibraryDesk$PatternReade\x72", name := "item", desc := "()I" } : Jvm.MethodName) prog_21_method_14_code (16 : Nat) (Option.some Jvm.ClassFile.FieldType.int)) ∈ lw_all := lw_g (lw_at lw_m12 51 rfl) rfl
theorem q3199 : (Jvm.Cond.methodLink "LibraryDesk$PatternReade\x72" (113 : Nat) ({ cls := "LibraryDesk$PatternReade\x72", name := "atom", desc := "()I" } : Jvm.MethodName)) ∈ lw_all := lw_g (lw_at lw_m12 52 rfl) rfl
theorem q3200 : (Jvm.Cond.privateMethod ({ cls := "LibraryDesk$PatternReade\x72", name := "atom", desc := "()I" } : Jvm.MethodName)) ∈ lw_tbl := lw_at lw_m12 53 rfl
theorem q3201 : (Jvm.Cond.instanceMethod ({ cls := "LibraryDesk$PatternReade\x72", name := "atom", desc := "()I" } : Jvm.MethodName)) ∈ lw_all := lw_g (lw_at lw_m12 54 rfl) rfl
theorem q3202 : (Jvm.Cond.code ({ cls := "LibraryDesk$PatternReade\x72", name := "atom", desc := "()I" } : Jvm.MethodName) prog_21_method_25_code (5 : Nat) (Option.some Jvm.ClassFile.FieldType.int)) ∈ lw_all := lw_g (lw_at lw_m12 55 rfl) rfl
theorem q3203 : (Jvm.Cond.methodLink "LibraryDesk$PatternReade\x72" (181 : Nat) ({ cls := "LibraryDesk$PatternReade\x72", name := "group", desc := "()I" } : Jvm.MethodName)) ∈ lw_all := lw_g (lw_at lw_m12 56 rfl) rfl
theorem q3204 : (Jvm.Cond.privateMethod ({ cls := "LibraryDesk$PatternReade\x72", name := "group", desc := "()I" } : Jvm.MethodName)) ∈ lw_tbl := lw_at lw_m12 57 rfl
theorem q3205 : (Jvm.Cond.instanceMethod ({ cls := "LibraryDesk$PatternReade\x72", name := "group", desc := "()I" } : Jvm.MethodName)) ∈ lw_all := lw_g (lw_at lw_m12 58 rfl) rfl
theorem q3206 : (Jvm.Cond.code ({ cls := "LibraryDesk$PatternReade\x72", name := "group", desc := "()I" } : Jvm.MethodName) prog_21_method_26_code (9 : Nat) (Option.some Jvm.ClassFile.FieldType.int)) ∈ lw_all := lw_g (lw_at lw_m12 59 rfl) rfl
theorem q3207 : (Jvm.Cond.methodLink "LibraryDesk$PatternReade\x72" (48 : Nat) ({ cls := "LibraryDesk$PatternReade\x72", name := "broken", desc := "()LLibraryDesk$Broken;" } : Jvm.MethodName)) ∈ lw_all := lw_g (lw_at lw_m12 60 rfl) rfl
theorem q3208 : (Jvm.Cond.privateMethod ({ cls := "LibraryDesk$PatternReade\x72", name := "broken", desc := "()LLibraryDesk$Broken;" } : Jvm.MethodName)) ∈ lw_tbl := lw_at lw_m12 61 rfl
theorem q3209 : (Jvm.Cond.instanceMethod ({ cls := "LibraryDesk$PatternReade\x72", name := "broken", desc := "()LLibraryDesk$Broken;" } : Jvm.MethodName)) ∈ lw_all := lw_g (lw_at lw_m12 62 rfl) rfl
theorem q3210 : (Jvm.Cond.code ({ cls := "LibraryDesk$PatternReade\x72", name := "broken", desc := "()LLibraryDesk$Broken;" } : Jvm.MethodName) prog_21_method_4_code (1 : Nat) (Option.some (Jvm.ClassFile.FieldType.object "LibraryDesk$Broken"))) ∈ lw_all := lw_g (lw_at lw_m12 63 rfl) rfl
theorem q3211 : (Jvm.Cond.classLink "LibraryDesk$PatternReade\x72" (28 : Nat) "LibraryDesk$Broken") ∈ lw_all := lw_g (lw_at lw_m12 64 rfl) rfl
theorem q3212 : (Jvm.Cond.methodLinkNest "LibraryDesk$PatternReade\x72" (30 : Nat) ({ cls := "LibraryDesk$Broken", name := "<init>", desc := "(I)V" } : Jvm.MethodName) "LibraryDesk") ∈ lw_tbl := lw_at lw_m12 65 rfl
theorem q3213 : (Jvm.Cond.methodLink "LibraryDesk$PatternReade\x72" (87 : Nat) ({ cls := "LibraryDesk$PatternReade\x72", name := "step", desc := "(III)I" } : Jvm.MethodName)) ∈ lw_all := lw_g (lw_at lw_m12 66 rfl) rfl
theorem q3214 : (Jvm.Cond.privateMethod ({ cls := "LibraryDesk$PatternReade\x72", name := "step", desc := "(III)I" } : Jvm.MethodName)) ∈ lw_tbl := lw_at lw_m12 67 rfl
theorem q3215 : (Jvm.Cond.instanceMethod ({ cls := "LibraryDesk$PatternReade\x72", name := "step", desc := "(III)I" } : Jvm.MethodName)) ∈ lw_all := lw_g (lw_at lw_m12 68 rfl) rfl
theorem q3216 : (Jvm.Cond.code ({ cls := "LibraryDesk$PatternReade\x72", name := "step", desc := "(III)I" } : Jvm.MethodName) prog_21_method_7_code (4 : Nat) (Option.some Jvm.ClassFile.FieldType.int)) ∈ lw_all := lw_g (lw_at lw_m12 69 rfl) rfl
theorem q3217 : (Jvm.Cond.methodLinkNest "LibraryDesk$PatternReade\x72" (60 : Nat) ({ cls := "LibraryDesk$PatternThing", name := "add", desc := "(III)I" } : Jvm.MethodName) "LibraryDesk") ∈ lw_tbl := lw_at lw_m12 70 rfl
theorem q3221 : (Jvm.Cond.methodLink "LibraryDesk$PatternReade\x72" (103 : Nat) ({ cls := "LibraryDesk$PatternReade\x72", name := "here", desc := "()I" } : Jvm.MethodName)) ∈ lw_all := lw_g (lw_at lw_m12 74 rfl) rfl
theorem q3222 : (Jvm.Cond.privateMethod ({ cls := "LibraryDesk$PatternReade\x72", name := "here", desc := "()I" } : Jvm.MethodName)) ∈ lw_tbl := lw_at lw_m12 75 rfl
theorem q3223 : (Jvm.Cond.instanceMethod ({ cls := "LibraryDesk$PatternReade\x72", name := "here", desc := "()I" } : Jvm.MethodName)) ∈ lw_all := lw_g (lw_at lw_m12 76 rfl) rfl
theorem q3224 : (Jvm.Cond.code ({ cls := "LibraryDesk$PatternReade\x72", name := "here", desc := "()I" } : Jvm.MethodName) prog_21_method_8_code (1 : Nat) (Option.some Jvm.ClassFile.FieldType.int)) ∈ lw_all := lw_g (lw_at lw_m12 77 rfl) rfl
theorem q3225 : (Jvm.Cond.methodLink "LibraryDesk$PatternReade\x72" (106 : Nat) ({ cls := "LibraryDesk$PatternReade\x72", name := "sum", desc := "(II)I" } : Jvm.MethodName)) ∈ lw_all := lw_g (lw_at lw_m12 78 rfl) rfl
theorem q3226 : (Jvm.Cond.static ({ cls := "LibraryDesk$PatternReade\x72", name := "sum", desc := "(II)I" } : Jvm.MethodName)) ∈ lw_all := lw_g (lw_at lw_m12 79 rfl) rfl
theorem q3227 : (Jvm.Cond.code ({ cls := "LibraryDesk$PatternReade\x72", name := "sum", desc := "(II)I" } : Jvm.MethodName) prog_21_method_9_code (2 : Nat) (Option.some Jvm.ClassFile.FieldType.int)) ∈ lw_all := lw_g (lw_at lw_m12 80 rfl) rfl
theorem q3228 : (Jvm.Cond.constant "LibraryDesk$PatternReade\x72" (80 : Nat) (100000 : Int32)) ∈ lw_all := lw_g (lw_at lw_m12 81 rfl) rfl
theorem q3229 : (Jvm.Cond.methodLink "LibraryDesk$PatternReade\x72" (184 : Nat) ({ cls := "LibraryDesk$PatternReade\x72", name := "sets", desc := "()I" } : Jvm.MethodName)) ∈ lw_all := lw_g (lw_at lw_m12 82 rfl) rfl
theorem q3230 : (Jvm.Cond.privateMethod ({ cls := "LibraryDesk$PatternReade\x72", name := "sets", desc := "()I" } : Jvm.MethodName)) ∈ lw_tbl := lw_at lw_m12 83 rfl
theorem q3231 : (Jvm.Cond.instanceMethod ({ cls := "LibraryDesk$PatternReade\x72", name := "sets", desc := "()I" } : Jvm.MethodName)) ∈ lw_all := lw_g (lw_at lw_m12 84 rfl) rfl
theorem q3232 : (Jvm.Cond.code ({ cls := "LibraryDesk$PatternReade\x72", name := "sets", desc := "()I" } : Jvm.MethodName) prog_21_method_36_code (2 : Nat) (Option.some Jvm.ClassFile.FieldType.int)) ∈ lw_all := lw_g (lw_at lw_m12 85 rfl) rfl
theorem q3233 : (Jvm.Cond.methodLink "LibraryDesk$PatternReade\x72" (211 : Nat) ({ cls := "LibraryDesk$PatternReade\x72", name := "clea\x72", desc := "()V" } : Jvm.MethodName)) ∈ lw_all := lw_g (lw_at lw_m12 86 rfl) rfl
theorem q3234 : (Jvm.Cond.privateMethod ({ cls := "LibraryDesk$PatternReade\x72", name := "clea\x72", desc := "()V" } : Jvm.MethodName)) ∈ lw_tbl := lw_at lw_m12 87 rfl
theorem q3235 : (Jvm.Cond.instanceMethod ({ cls := "LibraryDesk$PatternReade\x72", name := "clea\x72", desc := "()V" } : Jvm.MethodName)) ∈ lw_all := lw_g (lw_at lw_m12 88 rfl) rfl
theorem q3236 : (Jvm.Cond.code ({ cls := "LibraryDesk$PatternReade\x72", name := "clea\x72", desc := "()V" } : Jvm.MethodName) prog_21_method_31_code (2 : Nat) (Option.none : Option Jvm.ClassFile.FieldType)) ∈ lw_all := lw_g (lw_at lw_m12 89 rfl) rfl
theorem q3237 : (Jvm.Cond.methodLink "LibraryDesk$PatternReade\x72" (227 : Nat) ({ cls := "LibraryDesk$PatternReade\x72", name := "element", desc := "()V" } : Jvm.MethodName)) ∈ lw_all := lw_g (lw_at lw_m12 90 rfl) rfl
theorem q3238 : (Jvm.Cond.privateMethod ({ cls := "LibraryDesk$PatternReade\x72", name := "element", desc := "()V" } : Jvm.MethodName)) ∈ lw_tbl := lw_at lw_m12 91 rfl
theorem q3239 : (Jvm.Cond.instanceMethod ({ cls := "LibraryDesk$PatternReade\x72", name := "element", desc := "()V" } : Jvm.MethodName)) ∈ lw_all := lw_g (lw_at lw_m12 92 rfl) rfl
theorem q3240 : (Jvm.Cond.code ({ cls := "LibraryDesk$PatternReade\x72", name := "element", desc := "()V" } : Jvm.MethodName) prog_21_method_37_code (6 : Nat) (Option.none : Option Jvm.ClassFile.FieldType)) ∈ lw_all := lw_g (lw_at lw_m12 93 rfl) rfl
theorem q3241 : (Jvm.Cond.methodLink "LibraryDesk$PatternReade\x72" (208 : Nat) ({ cls := "LibraryDesk$PatternReade\x72", name := "isKind", desc := "(I)Z" } : Jvm.MethodName)) ∈ lw_all := lw_g (lw_at lw_m12 94 rfl) rfl
theorem q3242 : (Jvm.Cond.privateMethod ({ cls := "LibraryDesk$PatternReade\x72", name := "isKind", desc := "(I)Z" } : Jvm.MethodName)) ∈ lw_tbl := lw_at lw_m12 95 rfl
theorem q3243 : (Jvm.Cond.instanceMethod ({ cls := "LibraryDesk$PatternReade\x72", name := "isKind", desc := "(I)Z" } : Jvm.MethodName)) ∈ lw_all := lw_g (lw_at lw_m12 96 rfl) rfl
theorem q3244 : (Jvm.Cond.code ({ cls := "LibraryDesk$PatternReade\x72", name := "isKind", desc := "(I)Z" } : Jvm.MethodName) prog_21_method_33_code (2 : Nat) (Option.some Jvm.ClassFile.FieldType.boolean)) ∈ lw_all := lw_g (lw_at lw_m12 97 rfl) rfl
theorem q3245 : (Jvm.Cond.methodLink "LibraryDesk$PatternReade\x72" (214 : Nat) ({ cls := "LibraryDesk$PatternReade\x72", name := "putKind", desc := "(I)V" } : Jvm.MethodName)) ∈ lw_all := lw_g (lw_at lw_m12 98 rfl) rfl
theorem q3246 : (Jvm.Cond.privateMethod ({ cls := "LibraryDesk$PatternReade\x72", name := "putKind", desc := "(I)V" } : Jvm.MethodName)) ∈ lw_tbl := lw_at lw_m12 99 rfl
theorem q3247 : (Jvm.Cond.instanceMethod ({ cls := "LibraryDesk$PatternReade\x72", name := "putKind", desc := "(I)V" } : Jvm.MethodName)) ∈ lw_all := lw_g (lw_at lw_m12 100 rfl) rfl
theorem q3248 : (Jvm.Cond.code ({ cls := "LibraryDesk$PatternReade\x72", name := "putKind", desc := "(I)V" } : Jvm.MethodName) prog_21_method_30_code (5 : Nat) (Option.none : Option Jvm.ClassFile.FieldType)) ∈ lw_all := lw_g (lw_at lw_m12 101 rfl) rfl
theorem q3249 : (Jvm.Cond.methodLink "LibraryDesk$PatternReade\x72" (156 : Nat) ({ cls := "LibraryDesk$PatternReade\x72", name := "isDigit", desc := "(I)Z" } : Jvm.MethodName)) ∈ lw_all := lw_g (lw_at lw_m12 102 rfl) rfl
theorem q3250 : (Jvm.Cond.static ({ cls := "LibraryDesk$PatternReade\x72", name := "isDigit", desc := "(I)Z" } : Jvm.MethodName)) ∈ lw_all := lw_g (lw_at lw_m12 103 rfl) rfl
theorem q3251 : (Jvm.Cond.code ({ cls := "LibraryDesk$PatternReade\x72", name := "isDigit", desc := "(I)Z" } : Jvm.MethodName) prog_21_method_18_code (1 : Nat) (Option.some Jvm.ClassFile.FieldType.boolean)) ∈ lw_all := lw_g (lw_at lw_m12 104 rfl) rfl
theorem q3252 : (Jvm.Cond.methodLink "LibraryDesk$PatternReade\x72" (190 : Nat) ({ cls := "LibraryDesk$PatternReade\x72", name := "isWord", desc := "(I)Z" } : Jvm.MethodName)) ∈ lw_all := lw_g (lw_at lw_m12 105 rfl) rfl
theorem q3253 : (Jvm.Cond.static ({ cls := "LibraryDesk$PatternReade\x72", name := "isWord", desc := "(I)Z" } : Jvm.MethodName)) ∈ lw_all := lw_g (lw_at lw_m12 106 rfl) rfl
theorem q3254 : (Jvm.Cond.code ({ cls := "LibraryDesk$PatternReade\x72", name := "isWord", desc := "(I)Z" } : Jvm.MethodName) prog_21_method_27_code (1 : Nat) (Option.some Jvm.ClassFile.FieldType.boolean)) ∈ lw_all := lw_g (lw_at lw_m12 107 rfl) rfl
theorem q3255 : (Jvm.Cond.methodLinkNest "LibraryDesk$PatternReade\x72" (193 : Nat) ({ cls := "LibraryDesk$TextThing", name := "isBlank", desc := "(I)Z" } : Jvm.MethodName) "LibraryDesk") ∈ lw_tbl := lw_at lw_m12 108 rfl
theorem q3256 : (Jvm.Cond.methodLink "LibraryDesk$PatternReade\x72" (198 : Nat) ({ cls := "LibraryDesk$PatternReade\x72", name := "put", desc := "(I)V" } : Jvm.MethodName)) ∈ lw_all := lw_g (lw_at lw_m12 109 rfl) rfl
theorem q3257 : (Jvm.Cond.privateMethod ({ cls := "LibraryDesk$PatternReade\x72", name := "put", desc := "(I)V" } : Jvm.MethodName)) ∈ lw_tbl := lw_at lw_m12 110 rfl
theorem q3258 : (Jvm.Cond.instanceMethod ({ cls := "LibraryDesk$PatternReade\x72", name := "put", desc := "(I)V" } : Jvm.MethodName)) ∈ lw_all := lw_g (lw_at lw_m12 111 rfl) rfl
theorem q3259 : (Jvm.Cond.code ({ cls := "LibraryDesk$PatternReade\x72", name := "put", desc := "(I)V" } : Jvm.MethodName) prog_21_method_29_code (2 : Nat) (Option.none : Option Jvm.ClassFile.FieldType)) ∈ lw_all := lw_g (lw_at lw_m12 112 rfl) rfl
theorem q3260 : (Jvm.Cond.methodLink "LibraryDesk$PatternReade\x72" (221 : Nat) ({ cls := "LibraryDesk$PatternReade\x72", name := "itself", desc := "(I)V" } : Jvm.MethodName)) ∈ lw_all := lw_g (lw_at lw_m12 113 rfl) rfl
theorem q3261 : (Jvm.Cond.privateMethod ({ cls := "LibraryDesk$PatternReade\x72", name := "itself", desc := "(I)V" } : Jvm.MethodName)) ∈ lw_tbl := lw_at lw_m12 114 rfl
theorem q3262 : (Jvm.Cond.instanceMethod ({ cls := "LibraryDesk$PatternReade\x72", name := "itself", desc := "(I)V" } : Jvm.MethodName)) ∈ lw_all := lw_g (lw_at lw_m12 115 rfl) rfl
theorem q3263 : (Jvm.Cond.code ({ cls := "LibraryDesk$PatternReade\x72", name := "itself", desc := "(I)V" } : Jvm.MethodName) prog_21_method_35_code (2 : Nat) (Option.none : Option Jvm.ClassFile.FieldType)) ∈ lw_all := lw_g (lw_at lw_m12 116 rfl) rfl
theorem q3264 : (Jvm.Cond.methodLink "LibraryDesk$PatternReade\x72" (224 : Nat) ({ cls := "LibraryDesk$PatternReade\x72", name := "isLette\x72", desc := "(I)Z" } : Jvm.MethodName)) ∈ lw_all := lw_g (lw_at lw_m12 117 rfl) rfl
theorem q3265 : (Jvm.Cond.static ({ cls := "LibraryDesk$PatternReade\x72", name := "isLette\x72", desc := "(I)Z" } : Jvm.MethodName)) ∈ lw_all := lw_g (lw_at lw_m12 118 rfl) rfl
theorem q3266 : (Jvm.Cond.code ({ cls := "LibraryDesk$PatternReade\x72", name := "isLette\x72", desc := "(I)Z" } : Jvm.MethodName) prog_21_method_28_code (1 : Nat) (Option.some Jvm.ClassFile.FieldType.boolean)) ∈ lw_all := lw_g (lw_at lw_m12 119 rfl) rfl
theorem q3267 : (Jvm.Cond.methodLink "LibraryDesk$PatternReade\x72" (217 : Nat) ({ cls := "LibraryDesk$PatternReade\x72", name := "keepSet", desc := "(Z)I" } : Jvm.MethodName)) ∈ lw_all := lw_g (lw_at lw_m12 120 rfl) rfl
theorem q3268 : (Jvm.Cond.privateMethod ({ cls := "LibraryDesk$PatternReade\x72", name := "keepSet", desc := "(Z)I" } : Jvm.MethodName)) ∈ lw_tbl := lw_at lw_m12 121 rfl
theorem q3269 : (Jvm.Cond.instanceMethod ({ cls := "LibraryDesk$PatternReade\x72", name := "keepSet", desc := "(Z)I" } : Jvm.MethodName)) ∈ lw_all := lw_g (lw_at lw_m12 122 rfl) rfl
theorem q3270 : (Jvm.Cond.code ({ cls := "LibraryDesk$PatternReade\x72", name := "keepSet", desc := "(Z)I" } : Jvm.MethodName) prog_21_method_32_code (3 : Nat) (Option.some Jvm.ClassFile.FieldType.int)) ∈ lw_all := lw_g (lw_at lw_m12 123 rfl) rfl
theorem q3271 : (Jvm.Cond.constantLong "LibraryDesk$PatternReade\x72" (206 : Nat) (-1 : Int64)) ∈ lw_all := lw_g (lw_at lw_m12 124 rfl) rfl
theorem q3272 : (Jvm.Cond.methodLink "LibraryDesk$PatternReade\x72" (187 : Nat) ({ cls := "LibraryDesk$PatternReade\x72", name := "escape", desc := "()I" } : Jvm.MethodName)) ∈ lw_all := lw_g (lw_at lw_m12 125 rfl) rfl
theorem q3273 : (Jvm.Cond.privateMethod ({ cls := "LibraryDesk$PatternReade\x72", name := "escape", desc := "()I" } : Jvm.MethodName)) ∈ lw_tbl := lw_at lw_m12 126 rfl
theorem q3274 : (Jvm.Cond.instanceMethod ({ cls := "LibraryDesk$PatternReade\x72", name := "escape", desc := "()I" } : Jvm.MethodName)) ∈ lw_all := lw_g (lw_at lw_m12 127 rfl) rfl
theorem q3275 : (Jvm.Cond.code ({ cls := "LibraryDesk$PatternReade\x72", name := "escape", desc := "()I" } : Jvm.MethodName) prog_21_method_34_code (3 : Nat) (Option.some Jvm.ClassFile.FieldType.int)) ∈ lw_all := lw_g (lw_at lw_m12 128 rfl) rfl
theorem q3276 : (Jvm.Cond.methodLink "LibraryDesk$PatternReade\x72" (116 : Nat) ({ cls := "LibraryDesk$PatternReade\x72", name := "isLoose", desc := "(I)Z" } : Jvm.MethodName)) ∈ lw_all := lw_g (lw_at lw_m12 129 rfl) rfl
theorem q3277 : (Jvm.Cond.privateMethod ({ cls := "LibraryDesk$PatternReade\x72", name := "isLoose", desc := "(I)Z" } : Jvm.MethodName)) ∈ lw_tbl := lw_at lw_m12 130 rfl
theorem q3278 : (Jvm.Cond.instanceMethod ({ cls := "LibraryDesk$PatternReade\x72", name := "isLoose", desc := "(I)Z" } : Jvm.MethodName)) ∈ lw_all := lw_g (lw_at lw_m12 131 rfl) rfl
theorem q3279 : (Jvm.Cond.code ({ cls := "LibraryDesk$PatternReade\x72", name := "isLoose", desc := "(I)Z" } : Jvm.MethodName) prog_21_method_15_code (3 : Nat) (Option.some Jvm.ClassFile.FieldType.boolean)) ∈ lw_all := lw_g (lw_at lw_m12 132 rfl) rfl
theorem q3280 : (Jvm.Cond.methodLink "LibraryDesk$PatternReade\x72" (120 : Nat) ({ cls := "LibraryDesk$PatternReade\x72", name := "quantifie\x72", desc := "(Z)Z" } : Jvm.MethodName)) ∈ lw_all := lw_g (lw_at lw_m12 133 rfl) rfl
theorem q3281 : (Jvm.Cond.privateMethod ({ cls := "LibraryDesk$PatternReade\x72", name := "quantifie\x72", desc := "(Z)Z" } : Jvm.MethodName)) ∈ lw_tbl := lw_at lw_m12 134 rfl
theorem q3282 : (Jvm.Cond.instanceMethod ({ cls := "LibraryDesk$PatternReade\x72", name := "quantifie\x72", desc := "(Z)Z" } : Jvm.MethodName)) ∈ lw_all := lw_g (lw_at lw_m12 135 rfl) rfl
theorem q3283 : (Jvm.Cond.code ({ cls := "LibraryDesk$PatternReade\x72", name := "quantifie\x72", desc := "(Z)Z" } : Jvm.MethodName) prog_21_method_16_code (3 : Nat) (Option.some Jvm.ClassFile.FieldType.boolean)) ∈ lw_all := lw_g (lw_at lw_m12 136 rfl) rfl
theorem q3284 : (Jvm.Cond.methodLink "LibraryDesk$PatternReade\x72" (150 : Nat) ({ cls := "LibraryDesk$PatternReade\x72", name := "counts", desc := "()V" } : Jvm.MethodName)) ∈ lw_all := lw_g (lw_at lw_m12 137 rfl) rfl
theorem q3285 : (Jvm.Cond.privateMethod ({ cls := "LibraryDesk$PatternReade\x72", name := "counts", desc := "()V" } : Jvm.MethodName)) ∈ lw_tbl := lw_at lw_m12 138 rfl
theorem q3286 : (Jvm.Cond.instanceMethod ({ cls := "LibraryDesk$PatternReade\x72", name := "counts", desc := "()V" } : Jvm.MethodName)) ∈ lw_all := lw_g (lw_at lw_m12 139 rfl) rfl
theorem q3287 : (Jvm.Cond.code ({ cls := "LibraryDesk$PatternReade\x72", name := "counts", desc := "()V" } : Jvm.MethodName) prog_21_method_17_code (2 : Nat) (Option.none : Option Jvm.ClassFile.FieldType)) ∈ lw_all := lw_g (lw_at lw_m12 140 rfl) rfl
theorem q3288 : (Jvm.Cond.methodLink "LibraryDesk$PatternReade\x72" (153 : Nat) ({ cls := "LibraryDesk$PatternReade\x72", name := "numbe\x72", desc := "()I" } : Jvm.MethodName)) ∈ lw_all := lw_g (lw_at lw_m12 141 rfl) rfl
theorem q3289 : (Jvm.Cond.privateMethod ({ cls := "LibraryDesk$PatternReade\x72", name := "numbe\x72", desc := "()I" } : Jvm.MethodName)) ∈ lw_tbl := lw_at lw_m12 142 rfl
theorem q3290 : (Jvm.Cond.instanceMethod ({ cls := "LibraryDesk$PatternReade\x72", name := "numbe\x72", desc := "()I" } : Jvm.MethodName)) ∈ lw_all := lw_g (lw_at lw_m12 143 rfl) rfl
theorem q3291 : (Jvm.Cond.code ({ cls := "LibraryDesk$PatternReade\x72", name := "numbe\x72", desc := "()I" } : Jvm.MethodName) prog_21_method_19_code (3 : Nat) (Option.some Jvm.ClassFile.FieldType.int)) ∈ lw_all := lw_g (lw_at lw_m12 144 rfl) rfl
theorem q3292 : (Jvm.Cond.methodLink "LibraryDesk$PatternReade\x72" (124 : Nat) ({ cls := "LibraryDesk$PatternReade\x72", name := "once", desc := "(II)V" } : Jvm.MethodName)) ∈ lw_all := lw_g (lw_at lw_m12 145 rfl) rfl
theorem q3293 : (Jvm.Cond.privateMethod ({ cls := "LibraryDesk$PatternReade\x72", name := "once", desc := "(II)V" } : Jvm.MethodName)) ∈ lw_tbl := lw_at lw_m12 146 rfl
theorem q3294 : (Jvm.Cond.instanceMethod ({ cls := "LibraryDesk$PatternReade\x72", name := "once", desc := "(II)V" } : Jvm.MethodName)) ∈ lw_all := lw_g (lw_at lw_m12 147 rfl) rfl
theorem q3295 : (Jvm.Cond.code ({ cls := "LibraryDesk$PatternReade\x72", name := "once", desc := "(II)V" } : Jvm.MethodName) prog_21_method_20_code (4 : Nat) (Option.none : Option Jvm.ClassFile.FieldType)) ∈ lw_all := lw_g (lw_at lw_m12 148 rfl) rfl
theorem q3296 : (Jvm.Cond.methodLink "LibraryDesk$PatternReade\x72" (143 : Nat) ({ cls := "LibraryDesk$PatternReade\x72", name := "repeat", desc := "(IIIIZ)V" } : Jvm.MethodName)) ∈ lw_all := lw_g (lw_at lw_m12 149 rfl) rfl
theorem q3297 : (Jvm.Cond.privateMethod ({ cls := "LibraryDesk$PatternReade\x72", name := "repeat", desc := "(IIIIZ)V" } : Jvm.MethodName)) ∈ lw_tbl := lw_at lw_m12 150 rfl
theorem q3298 : (Jvm.Cond.instanceMethod ({ cls := "LibraryDesk$PatternReade\x72", name := "repeat", desc := "(IIIIZ)V" } : Jvm.MethodName)) ∈ lw_all := lw_g (lw_at lw_m12 151 rfl) rfl
theorem q3299 : (Jvm.Cond.code ({ cls := "LibraryDesk$PatternReade\x72", name := "repeat", desc := "(IIIIZ)V" } : Jvm.MethodName) prog_21_method_21_code (9 : Nat) (Option.none : Option Jvm.ClassFile.FieldType)) ∈ lw_all := lw_g (lw_at lw_m12 152 rfl) rfl
theorem q3300 : (Jvm.Cond.methodLink "LibraryDesk$PatternReade\x72" (159 : Nat) ({ cls := "LibraryDesk$PatternReade\x72", name := "sta\x72", desc := "(IIZ)V" } : Jvm.MethodName)) ∈ lw_all := lw_g (lw_at lw_m12 153 rfl) rfl
theorem q3301 : (Jvm.Cond.privateMethod ({ cls := "LibraryDesk$PatternReade\x72", name := "sta\x72", desc := "(IIZ)V" } : Jvm.MethodName)) ∈ lw_tbl := lw_at lw_m12 154 rfl
theorem q3302 : (Jvm.Cond.instanceMethod ({ cls := "LibraryDesk$PatternReade\x72", name := "sta\x72", desc := "(IIZ)V" } : Jvm.MethodName)) ∈ lw_all := lw_g (lw_at lw_m12 155 rfl) rfl
theorem q3303 : (Jvm.Cond.code ({ cls := "LibraryDesk$PatternReade\x72", name := "sta\x72", desc := "(IIZ)V" } : Jvm.MethodName) prog_21_method_22_code (8 : Nat) (Option.none : Option Jvm.ClassFile.FieldType)) ∈ lw_all := lw_g (lw_at lw_m12 156 rfl) rfl
theorem q3304 : (Jvm.Cond.methodLinkNest "LibraryDesk$PatternReade\x72" (166 : Nat) ({ cls := "LibraryDesk$PatternThing", name := "openLoop", desc := "()I" } : Jvm.MethodName) "LibraryDesk") ∈ lw_tbl := lw_at lw_m12 157 rfl
theorem q3308 : (Jvm.Cond.methodLink "LibraryDesk$PatternReade\x72" (175 : Nat) ({ cls := "LibraryDesk$PatternReade\x72", name := "set", desc := "(IIIZ)V" } : Jvm.MethodName)) ∈ lw_all := lw_g (lw_at lw_m12 161 rfl) rfl
theorem q3309 : (Jvm.Cond.privateMethod ({ cls := "LibraryDesk$PatternReade\x72", name := "set", desc := "(IIIZ)V" } : Jvm.MethodName)) ∈ lw_tbl := lw_at lw_m12 162 rfl
theorem q3310 : (Jvm.Cond.instanceMethod ({ cls := "LibraryDesk$PatternReade\x72", name := "set", desc := "(IIIZ)V" } : Jvm.MethodName)) ∈ lw_all := lw_g (lw_at lw_m12 163 rfl) rfl
theorem q3311 : (Jvm.Cond.code ({ cls := "LibraryDesk$PatternReade\x72", name := "set", desc := "(IIIZ)V" } : Jvm.MethodName) prog_21_method_23_code (5 : Nat) (Option.none : Option Jvm.ClassFile.FieldType)) ∈ lw_all := lw_g (lw_at lw_m12 164 rfl) rfl
theorem q3312 : (Jvm.Cond.methodLink "LibraryDesk$PatternReade\x72" (163 : Nat) ({ cls := "LibraryDesk$PatternReade\x72", name := "ends", desc := "(II)V" } : Jvm.MethodName)) ∈ lw_all := lw_g (lw_at lw_m12 165 rfl) rfl
theorem q3313 : (Jvm.Cond.privateMethod ({ cls := "LibraryDesk$PatternReade\x72", name := "ends", desc := "(II)V" } : Jvm.MethodName)) ∈ lw_tbl := lw_at lw_m12 166 rfl
theorem q3314 : (Jvm.Cond.instanceMethod ({ cls := "LibraryDesk$PatternReade\x72", name := "ends", desc := "(II)V" } : Jvm.MethodName)) ∈ lw_all := lw_g (lw_at lw_m12 167 rfl) rfl
theorem q3315 : (Jvm.Cond.code ({ cls := "LibraryDesk$PatternReade\x72", name := "ends", desc := "(II)V" } : Jvm.MethodName) prog_21_method_24_code (6 : Nat) (Option.none : Option Jvm.ClassFile.FieldType)) ∈ lw_all := lw_g (lw_at lw_m12 168 rfl) rfl
theorem q3316 : (Jvm.Cond.methodLink "LibraryDesk$PatternReade\x72" (147 : Nat) ({ cls := "LibraryDesk$PatternReade\x72", name := "times", desc := "(II)I" } : Jvm.MethodName)) ∈ lw_all := lw_g (lw_at lw_m12 169 rfl) rfl
theorem q3317 : (Jvm.Cond.static ({ cls := "LibraryDesk$PatternReade\x72", name := "times", desc := "(II)I" } : Jvm.MethodName)) ∈ lw_all := lw_g (lw_at lw_m12 170 rfl) rfl
theorem q3318 : (Jvm.Cond.code ({ cls := "LibraryDesk$PatternReade\x72", name := "times", desc := "(II)I" } : Jvm.MethodName) prog_21_method_10_code (2 : Nat) (Option.some Jvm.ClassFile.FieldType.int)) ∈ lw_all := lw_g (lw_at lw_m12 171 rfl) rfl
theorem q3319 : (Jvm.Cond.constantLong "LibraryDesk$PatternReade\x72" (81 : Nat) (100000 : Int64)) ∈ lw_all := lw_g (lw_at lw_m12 172 rfl) rfl
theorem q3320 : (Jvm.Cond.methodLinkNest "LibraryDesk$PatternReade\x72" (52 : Nat) ({ cls := "LibraryDesk", name := "within", desc := "(Z)V" } : Jvm.MethodName) "LibraryDesk") ∈ lw_tbl := lw_at lw_m12 173 rfl
theorem q6110 : (Jvm.Cond.castable "LibraryDesk$PatternReade\x72" "java/lang/Object") ∈ lw_tbl := lw_at lw_m24 83 rfl
theorem in_X4 : ∀ w ∈ wsX40, w ∈ lw_all := lw_in wsX40 [632, 634, 636, 638, 640, 642, 644, 646, 648, 650, 652, 654, 656, 658, 660] (by decide +kernel) (by decide +kernel)

/-! LibraryDesk$Matcher -/
set_option maxRecDepth 100000
def RX5 : String := "LibraryDesk$Matche\x72"
def TX5 : u_T := fun k => match k with
  | 0 => ("LibraryDesk$Matche\x72", "seen", "[J", true)
  | 1 => ("LibraryDesk$Matche\x72", "saved", "[I", true)
  | 2 => ("LibraryDesk$Matche\x72", "kept", "[I", true)
  | 3 => ("LibraryDesk$Matche\x72", "stack", "[J", false)
  | 4 => ("LibraryDesk$Matche\x72", "top", "I", false)
  | 5 => ("LibraryDesk$Matche\x72", "p", "LLibraryDesk$PatternThing;", false)
  | 6 => ("LibraryDesk$Matche\x72", "t", "LLibraryDesk$TextThing;", false)
  | 7 => ("LibraryDesk$Matche\x72", "whole", "Z", false)
  | 8 => ("LibraryDesk$Matche\x72", "isKept", "[Z", true)
  | 9 => ("LibraryDesk$Matche\x72", "made", "[B", true)
  | _ => ("LibraryDesk$Matche\x72", "madeSize", "I", false)
def tyX5 : Nat → FieldType := fun k => match k with
  | 0 => .array .long
  | 1 => .array .int
  | 2 => .array .int
  | 3 => .array .long
  | 4 => .int
  | 5 => .object "LibraryDesk$PatternThing"
  | 6 => .object "LibraryDesk$TextThing"
  | 7 => .boolean
  | 8 => .array .boolean
  | 9 => .array .byte
  | _ => .int
abbrev wsX50 : List Cond := u_ws RX5 TX5 11
theorem nmX5 : ∀ a, a < 11 → ∀ b, b < 11 → a ≠ b → (TX5 a).2.1 ≠ (TX5 b).2.1 := by decide +kernel
theorem tyX5_ok : ∀ k, k < 11 → parseFieldDescriptor (TX5 k).2.2.1 = some (tyX5 k) := by decide +kernel
abbrev cX5_init : ByteArray := prog_16_method_1_code
def yX5_init : MethodName := ⟨RX5, "<init>", "()V"⟩
def dkwX5_init_2 : List UInt8 := [17, 15, 160, 188, 8, 181, 0, 32, 42, 182, 0, 36, 177]
abbrev dktX5_init_2 : List UInt8 := dkwX5_init_2 ++ []
def dkwX5_init_1 : List UInt8 := [188, 10, 181, 0, 22, 42, 17, 16, 0, 188, 11, 181, 0, 25, 42, 16, 20, 188, 4, 181, 0, 28, 42]
abbrev dktX5_init_1 : List UInt8 := dkwX5_init_1 ++ dktX5_init_2
def dkwX5_init_0 : List UInt8 := [42, 183, 0, 5, 42, 18, 13, 188, 11, 181, 0, 14, 42, 17, 1, 164, 188, 10, 181, 0, 18, 42, 16, 20]
abbrev dktX5_init_0 : List UInt8 := dkwX5_init_0 ++ dktX5_init_1
theorem dksX5_init_0 : cX5_init.data.toList.drop 0 = dktX5_init_0 := by decide +kernel
theorem dksX5_init_1 : cX5_init.data.toList.drop 24 = dktX5_init_1 := dk_seg dksX5_init_0 24 rfl rfl
theorem dksX5_init_2 : cX5_init.data.toList.drop 47 = dktX5_init_2 := dk_seg dksX5_init_1 23 rfl rfl
theorem dX5_init_0 : decode cX5_init 0 = .ok (.aload_n 0, 1) := dk_42 (dk_at dksX5_init_0 0 rfl rfl)
theorem dX5_init_1 : decode cX5_init 1 = .ok (.invokespecial 5, 3) := dk_183 0 5 (dk_at dksX5_init_0 1 rfl rfl)
theorem dX5_init_4 : decode cX5_init 4 = .ok (.aload_n 0, 1) := dk_42 (dk_at dksX5_init_0 4 rfl rfl)
theorem dX5_init_5 : decode cX5_init 5 = .ok (.ldc 13, 2) := dk_18 13 (dk_at dksX5_init_0 5 rfl rfl)
theorem dX5_init_7 : decode cX5_init 7 = .ok (.newarray .long, 2) := dk_188_11 (dk_at dksX5_init_0 7 rfl rfl)
theorem dX5_init_9 : decode cX5_init 9 = .ok (.putfield 14, 3) := dk_181 0 14 (dk_at dksX5_init_0 9 rfl rfl)
theorem dX5_init_12 : decode cX5_init 12 = .ok (.aload_n 0, 1) := dk_42 (dk_at dksX5_init_0 12 rfl rfl)
theorem dX5_init_13 : decode cX5_init 13 = .ok (.sipush 420, 3) := dk_17 1 164 (dk_at dksX5_init_0 13 rfl rfl)
theorem dX5_init_16 : decode cX5_init 16 = .ok (.newarray .int, 2) := dk_188_10 (dk_at dksX5_init_0 16 rfl rfl)
theorem dX5_init_18 : decode cX5_init 18 = .ok (.putfield 18, 3) := dk_181 0 18 (dk_at dksX5_init_0 18 rfl rfl)
theorem dX5_init_21 : decode cX5_init 21 = .ok (.aload_n 0, 1) := dk_42 (dk_at dksX5_init_0 21 rfl rfl)
theorem dX5_init_22 : decode cX5_init 22 = .ok (.bipush 20, 2) := dk_16 20 (dk_at dksX5_init_0 22 rfl rfl)
theorem dX5_init_24 : decode cX5_init 24 = .ok (.newarray .int, 2) := dk_188_10 (dk_at dksX5_init_1 0 rfl rfl)
theorem dX5_init_26 : decode cX5_init 26 = .ok (.putfield 22, 3) := dk_181 0 22 (dk_at dksX5_init_1 2 rfl rfl)
theorem dX5_init_29 : decode cX5_init 29 = .ok (.aload_n 0, 1) := dk_42 (dk_at dksX5_init_1 5 rfl rfl)
theorem dX5_init_30 : decode cX5_init 30 = .ok (.sipush 4096, 3) := dk_17 16 0 (dk_at dksX5_init_1 6 rfl rfl)
theorem dX5_init_33 : decode cX5_init 33 = .ok (.newarray .long, 2) := dk_188_11 (dk_at dksX5_init_1 9 rfl rfl)
theorem dX5_init_35 : decode cX5_init 35 = .ok (.putfield 25, 3) := dk_181 0 25 (dk_at dksX5_init_1 11 rfl rfl)
theorem dX5_init_38 : decode cX5_init 38 = .ok (.aload_n 0, 1) := dk_42 (dk_at dksX5_init_1 14 rfl rfl)
theorem dX5_init_39 : decode cX5_init 39 = .ok (.bipush 20, 2) := dk_16 20 (dk_at dksX5_init_1 15 rfl rfl)
theorem dX5_init_41 : decode cX5_init 41 = .ok (.newarray .boolean, 2) := dk_188_4 (dk_at dksX5_init_1 17 rfl rfl)
theorem dX5_init_43 : decode cX5_init 43 = .ok (.putfield 28, 3) := dk_181 0 28 (dk_at dksX5_init_1 19 rfl rfl)
theorem dX5_init_46 : decode cX5_init 46 = .ok (.aload_n 0, 1) := dk_42 (dk_at dksX5_init_1 22 rfl rfl)
theorem dX5_init_47 : decode cX5_init 47 = .ok (.sipush 4000, 3) := dk_17 15 160 (dk_at dksX5_init_2 0 rfl rfl)
theorem dX5_init_50 : decode cX5_init 50 = .ok (.newarray .byte, 2) := dk_188_8 (dk_at dksX5_init_2 3 rfl rfl)
theorem dX5_init_52 : decode cX5_init 52 = .ok (.putfield 32, 3) := dk_181 0 32 (dk_at dksX5_init_2 5 rfl rfl)
theorem dX5_init_55 : decode cX5_init 55 = .ok (.aload_n 0, 1) := dk_42 (dk_at dksX5_init_2 8 rfl rfl)
theorem dX5_init_56 : decode cX5_init 56 = .ok (.invokevirtual 36, 3) := dk_182 0 36 (dk_at dksX5_init_2 9 rfl rfl)
theorem dX5_init_59 : decode cX5_init 59 = .ok (.return_, 1) := dk_177 (dk_at dksX5_init_2 12 rfl rfl)
abbrev cX5_forget : ByteArray := prog_16_method_2_code
def yX5_forget : MethodName := ⟨RX5, "forget", "()V"⟩
def dkwX5_forget_0 : List UInt8 := [3, 60, 27, 16, 20, 162, 0, 16, 42, 180, 0, 22, 27, 2, 79, 132, 1, 1, 167, 255, 240, 177]
abbrev dktX5_forget_0 : List UInt8 := dkwX5_forget_0 ++ []
theorem dksX5_forget_0 : cX5_forget.data.toList.drop 0 = dktX5_forget_0 := by decide +kernel
theorem dX5_forget_0 : decode cX5_forget 0 = .ok (.iconst 0, 1) := dk_3 (dk_at dksX5_forget_0 0 rfl rfl)
theorem dX5_forget_1 : decode cX5_forget 1 = .ok (.istore_n 1, 1) := dk_60 (dk_at dksX5_forget_0 1 rfl rfl)
theorem dX5_forget_2 : decode cX5_forget 2 = .ok (.iload_n 1, 1) := dk_27 (dk_at dksX5_forget_0 2 rfl rfl)
theorem dX5_forget_3 : decode cX5_forget 3 = .ok (.bipush 20, 2) := dk_16 20 (dk_at dksX5_forget_0 3 rfl rfl)
theorem dX5_forget_5 : decode cX5_forget 5 = .ok (.if_icmp .ge 16, 3) := dk_162 0 16 (dk_at dksX5_forget_0 5 rfl rfl)
theorem dX5_forget_8 : decode cX5_forget 8 = .ok (.aload_n 0, 1) := dk_42 (dk_at dksX5_forget_0 8 rfl rfl)
theorem dX5_forget_9 : decode cX5_forget 9 = .ok (.getfield 22, 3) := dk_180 0 22 (dk_at dksX5_forget_0 9 rfl rfl)
theorem dX5_forget_12 : decode cX5_forget 12 = .ok (.iload_n 1, 1) := dk_27 (dk_at dksX5_forget_0 12 rfl rfl)
theorem dX5_forget_13 : decode cX5_forget 13 = .ok (.iconst (-1), 1) := dk_2 (dk_at dksX5_forget_0 13 rfl rfl)
theorem dX5_forget_14 : decode cX5_forget 14 = .ok (.iastore, 1) := dk_79 (dk_at dksX5_forget_0 14 rfl rfl)
theorem dX5_forget_15 : decode cX5_forget 15 = .ok (.iinc 1 1, 3) := dk_132 1 1 (dk_at dksX5_forget_0 15 rfl rfl)
theorem dX5_forget_18 : decode cX5_forget 18 = .ok (.goto (-16), 3) := dk_167 255 240 (dk_at dksX5_forget_0 18 rfl rfl)
theorem dX5_forget_21 : decode cX5_forget 21 = .ok (.return_, 1) := dk_177 (dk_at dksX5_forget_0 21 rfl rfl)
abbrev cX5_match : ByteArray := prog_16_method_17_code
def yX5_match : MethodName := ⟨RX5, "match", "(LLibraryDesk$PatternThing;LLibraryDesk$TextThing;II)I"⟩
def dkwX5_match_4 : List UInt8 := [172]
abbrev dktX5_match_4 : List UInt8 := dkwX5_match_4 ++ []
def dkwX5_match_3 : List UInt8 := [21, 7, 182, 0, 148, 54, 5, 132, 7, 1, 167, 255, 233, 21, 5, 155, 0, 7, 42, 182, 0, 151, 21, 5]
abbrev dktX5_match_3 : List UInt8 := dkwX5_match_3 ++ dktX5_match_4
def dkwX5_match_2 : List UInt8 := [154, 0, 7, 3, 167, 0, 5, 21, 4, 54, 7, 21, 7, 21, 6, 163, 0, 22, 21, 5, 156, 0, 17, 42]
abbrev dktX5_match_2 : List UInt8 := dkwX5_match_2 ++ dktX5_match_3
def dkwX5_match_1 : List UInt8 := [180, 0, 43, 180, 0, 85, 167, 0, 13, 29, 154, 0, 7, 3, 167, 0, 5, 21, 4, 54, 6, 29]
abbrev dktX5_match_1 : List UInt8 := dkwX5_match_1 ++ dktX5_match_2
def dkwX5_match_0 : List UInt8 := [42, 43, 44, 29, 154, 0, 7, 4, 167, 0, 4, 3, 182, 0, 144, 2, 54, 5, 29, 5, 160, 0, 13, 42]
abbrev dktX5_match_0 : List UInt8 := dkwX5_match_0 ++ dktX5_match_1
theorem dksX5_match_0 : cX5_match.data.toList.drop 0 = dktX5_match_0 := by decide +kernel
theorem dksX5_match_1 : cX5_match.data.toList.drop 24 = dktX5_match_1 := dk_seg dksX5_match_0 24 rfl rfl
theorem dksX5_match_2 : cX5_match.data.toList.drop 46 = dktX5_match_2 := dk_seg dksX5_match_1 22 rfl rfl
theorem dksX5_match_3 : cX5_match.data.toList.drop 70 = dktX5_match_3 := dk_seg dksX5_match_2 24 rfl rfl
theorem dksX5_match_4 : cX5_match.data.toList.drop 94 = dktX5_match_4 := dk_seg dksX5_match_3 24 rfl rfl
theorem dX5_match_0 : decode cX5_match 0 = .ok (.aload_n 0, 1) := dk_42 (dk_at dksX5_match_0 0 rfl rfl)
theorem dX5_match_1 : decode cX5_match 1 = .ok (.aload_n 1, 1) := dk_43 (dk_at dksX5_match_0 1 rfl rfl)
theorem dX5_match_2 : decode cX5_match 2 = .ok (.aload_n 2, 1) := dk_44 (dk_at dksX5_match_0 2 rfl rfl)
theorem dX5_match_3 : decode cX5_match 3 = .ok (.iload_n 3, 1) := dk_29 (dk_at dksX5_match_0 3 rfl rfl)
theorem dX5_match_4 : decode cX5_match 4 = .ok (.ifCond .ne 7, 3) := dk_154 0 7 (dk_at dksX5_match_0 4 rfl rfl)
theorem dX5_match_7 : decode cX5_match 7 = .ok (.iconst 1, 1) := dk_4 (dk_at dksX5_match_0 7 rfl rfl)
theorem dX5_match_8 : decode cX5_match 8 = .ok (.goto 4, 3) := dk_167 0 4 (dk_at dksX5_match_0 8 rfl rfl)
theorem dX5_match_11 : decode cX5_match 11 = .ok (.iconst 0, 1) := dk_3 (dk_at dksX5_match_0 11 rfl rfl)
theorem dX5_match_12 : decode cX5_match 12 = .ok (.invokevirtual 144, 3) := dk_182 0 144 (dk_at dksX5_match_0 12 rfl rfl)
theorem dX5_match_15 : decode cX5_match 15 = .ok (.iconst (-1), 1) := dk_2 (dk_at dksX5_match_0 15 rfl rfl)
theorem dX5_match_16 : decode cX5_match 16 = .ok (.istore 5, 2) := dk_54 5 (dk_at dksX5_match_0 16 rfl rfl)
theorem dX5_match_18 : decode cX5_match 18 = .ok (.iload_n 3, 1) := dk_29 (dk_at dksX5_match_0 18 rfl rfl)
theorem dX5_match_19 : decode cX5_match 19 = .ok (.iconst 2, 1) := dk_5 (dk_at dksX5_match_0 19 rfl rfl)
theorem dX5_match_20 : decode cX5_match 20 = .ok (.if_icmp .ne 13, 3) := dk_160 0 13 (dk_at dksX5_match_0 20 rfl rfl)
theorem dX5_match_23 : decode cX5_match 23 = .ok (.aload_n 0, 1) := dk_42 (dk_at dksX5_match_0 23 rfl rfl)
theorem dX5_match_24 : decode cX5_match 24 = .ok (.getfield 43, 3) := dk_180 0 43 (dk_at dksX5_match_1 0 rfl rfl)
theorem dX5_match_27 : decode cX5_match 27 = .ok (.getfield 85, 3) := dk_180 0 85 (dk_at dksX5_match_1 3 rfl rfl)
theorem dX5_match_30 : decode cX5_match 30 = .ok (.goto 13, 3) := dk_167 0 13 (dk_at dksX5_match_1 6 rfl rfl)
theorem dX5_match_33 : decode cX5_match 33 = .ok (.iload_n 3, 1) := dk_29 (dk_at dksX5_match_1 9 rfl rfl)
theorem dX5_match_34 : decode cX5_match 34 = .ok (.ifCond .ne 7, 3) := dk_154 0 7 (dk_at dksX5_match_1 10 rfl rfl)
theorem dX5_match_37 : decode cX5_match 37 = .ok (.iconst 0, 1) := dk_3 (dk_at dksX5_match_1 13 rfl rfl)
theorem dX5_match_38 : decode cX5_match 38 = .ok (.goto 5, 3) := dk_167 0 5 (dk_at dksX5_match_1 14 rfl rfl)
theorem dX5_match_41 : decode cX5_match 41 = .ok (.iload 4, 2) := dk_21 4 (dk_at dksX5_match_1 17 rfl rfl)
theorem dX5_match_43 : decode cX5_match 43 = .ok (.istore 6, 2) := dk_54 6 (dk_at dksX5_match_1 19 rfl rfl)
theorem dX5_match_45 : decode cX5_match 45 = .ok (.iload_n 3, 1) := dk_29 (dk_at dksX5_match_1 21 rfl rfl)
theorem dX5_match_46 : decode cX5_match 46 = .ok (.ifCond .ne 7, 3) := dk_154 0 7 (dk_at dksX5_match_2 0 rfl rfl)
theorem dX5_match_49 : decode cX5_match 49 = .ok (.iconst 0, 1) := dk_3 (dk_at dksX5_match_2 3 rfl rfl)
theorem dX5_match_50 : decode cX5_match 50 = .ok (.goto 5, 3) := dk_167 0 5 (dk_at dksX5_match_2 4 rfl rfl)
theorem dX5_match_53 : decode cX5_match 53 = .ok (.iload 4, 2) := dk_21 4 (dk_at dksX5_match_2 7 rfl rfl)
theorem dX5_match_55 : decode cX5_match 55 = .ok (.istore 7, 2) := dk_54 7 (dk_at dksX5_match_2 9 rfl rfl)
theorem dX5_match_57 : decode cX5_match 57 = .ok (.iload 7, 2) := dk_21 7 (dk_at dksX5_match_2 11 rfl rfl)
theorem dX5_match_59 : decode cX5_match 59 = .ok (.iload 6, 2) := dk_21 6 (dk_at dksX5_match_2 13 rfl rfl)
theorem dX5_match_61 : decode cX5_match 61 = .ok (.if_icmp .gt 22, 3) := dk_163 0 22 (dk_at dksX5_match_2 15 rfl rfl)
theorem dX5_match_64 : decode cX5_match 64 = .ok (.iload 5, 2) := dk_21 5 (dk_at dksX5_match_2 18 rfl rfl)
theorem dX5_match_66 : decode cX5_match 66 = .ok (.ifCond .ge 17, 3) := dk_156 0 17 (dk_at dksX5_match_2 20 rfl rfl)
theorem dX5_match_69 : decode cX5_match 69 = .ok (.aload_n 0, 1) := dk_42 (dk_at dksX5_match_2 23 rfl rfl)
theorem dX5_match_70 : decode cX5_match 70 = .ok (.iload 7, 2) := dk_21 7 (dk_at dksX5_match_3 0 rfl rfl)
theorem dX5_match_72 : decode cX5_match 72 = .ok (.invokevirtual 148, 3) := dk_182 0 148 (dk_at dksX5_match_3 2 rfl rfl)
theorem dX5_match_75 : decode cX5_match 75 = .ok (.istore 5, 2) := dk_54 5 (dk_at dksX5_match_3 5 rfl rfl)
theorem dX5_match_77 : decode cX5_match 77 = .ok (.iinc 7 1, 3) := dk_132 7 1 (dk_at dksX5_match_3 7 rfl rfl)
theorem dX5_match_80 : decode cX5_match 80 = .ok (.goto (-23), 3) := dk_167 255 233 (dk_at dksX5_match_3 10 rfl rfl)
theorem dX5_match_83 : decode cX5_match 83 = .ok (.iload 5, 2) := dk_21 5 (dk_at dksX5_match_3 13 rfl rfl)
theorem dX5_match_85 : decode cX5_match 85 = .ok (.ifCond .lt 7, 3) := dk_155 0 7 (dk_at dksX5_match_3 15 rfl rfl)
theorem dX5_match_88 : decode cX5_match 88 = .ok (.aload_n 0, 1) := dk_42 (dk_at dksX5_match_3 18 rfl rfl)
theorem dX5_match_89 : decode cX5_match 89 = .ok (.invokevirtual 151, 3) := dk_182 0 151 (dk_at dksX5_match_3 19 rfl rfl)
theorem dX5_match_92 : decode cX5_match 92 = .ok (.iload 5, 2) := dk_21 5 (dk_at dksX5_match_3 22 rfl rfl)
theorem dX5_match_94 : decode cX5_match 94 = .ok (.ireturn, 1) := dk_172 (dk_at dksX5_match_4 0 rfl rfl)
abbrev cX5_begin : ByteArray := prog_16_method_3_code
def yX5_begin : MethodName := ⟨RX5, "begin", "(LLibraryDesk$PatternThing;LLibraryDesk$TextThing;Z)V"⟩
def dkwX5_begin_1 : List UInt8 := [182, 0, 55, 177]
abbrev dktX5_begin_1 : List UInt8 := dkwX5_begin_1 ++ []
def dkwX5_begin_0 : List UInt8 := [42, 43, 181, 0, 39, 42, 44, 181, 0, 43, 42, 29, 181, 0, 47, 42, 3, 42, 180, 0, 39, 180, 0, 51]
abbrev dktX5_begin_0 : List UInt8 := dkwX5_begin_0 ++ dktX5_begin_1
theorem dksX5_begin_0 : cX5_begin.data.toList.drop 0 = dktX5_begin_0 := by decide +kernel
theorem dksX5_begin_1 : cX5_begin.data.toList.drop 24 = dktX5_begin_1 := dk_seg dksX5_begin_0 24 rfl rfl
theorem dX5_begin_0 : decode cX5_begin 0 = .ok (.aload_n 0, 1) := dk_42 (dk_at dksX5_begin_0 0 rfl rfl)
theorem dX5_begin_1 : decode cX5_begin 1 = .ok (.aload_n 1, 1) := dk_43 (dk_at dksX5_begin_0 1 rfl rfl)
theorem dX5_begin_2 : decode cX5_begin 2 = .ok (.putfield 39, 3) := dk_181 0 39 (dk_at dksX5_begin_0 2 rfl rfl)
theorem dX5_begin_5 : decode cX5_begin 5 = .ok (.aload_n 0, 1) := dk_42 (dk_at dksX5_begin_0 5 rfl rfl)
theorem dX5_begin_6 : decode cX5_begin 6 = .ok (.aload_n 2, 1) := dk_44 (dk_at dksX5_begin_0 6 rfl rfl)
theorem dX5_begin_7 : decode cX5_begin 7 = .ok (.putfield 43, 3) := dk_181 0 43 (dk_at dksX5_begin_0 7 rfl rfl)
theorem dX5_begin_10 : decode cX5_begin 10 = .ok (.aload_n 0, 1) := dk_42 (dk_at dksX5_begin_0 10 rfl rfl)
theorem dX5_begin_11 : decode cX5_begin 11 = .ok (.iload_n 3, 1) := dk_29 (dk_at dksX5_begin_0 11 rfl rfl)
theorem dX5_begin_12 : decode cX5_begin 12 = .ok (.putfield 47, 3) := dk_181 0 47 (dk_at dksX5_begin_0 12 rfl rfl)
theorem dX5_begin_15 : decode cX5_begin 15 = .ok (.aload_n 0, 1) := dk_42 (dk_at dksX5_begin_0 15 rfl rfl)
theorem dX5_begin_16 : decode cX5_begin 16 = .ok (.iconst 0, 1) := dk_3 (dk_at dksX5_begin_0 16 rfl rfl)
theorem dX5_begin_17 : decode cX5_begin 17 = .ok (.aload_n 0, 1) := dk_42 (dk_at dksX5_begin_0 17 rfl rfl)
theorem dX5_begin_18 : decode cX5_begin 18 = .ok (.getfield 39, 3) := dk_180 0 39 (dk_at dksX5_begin_0 18 rfl rfl)
theorem dX5_begin_21 : decode cX5_begin 21 = .ok (.getfield 51, 3) := dk_180 0 51 (dk_at dksX5_begin_0 21 rfl rfl)
theorem dX5_begin_24 : decode cX5_begin 24 = .ok (.invokevirtual 55, 3) := dk_182 0 55 (dk_at dksX5_begin_1 0 rfl rfl)
theorem dX5_begin_27 : decode cX5_begin 27 = .ok (.return_, 1) := dk_177 (dk_at dksX5_begin_1 3 rfl rfl)
abbrev cX5_clear : ByteArray := prog_16_method_4_code
def yX5_clear : MethodName := ⟨RX5, "clea\x72", "(II)V"⟩
def dkwX5_clear_1 : List UInt8 := [9, 80, 132, 3, 1, 167, 255, 235, 177]
abbrev dktX5_clear_1 : List UInt8 := dkwX5_clear_1 ++ []
def dkwX5_clear_0 : List UInt8 := [27, 16, 12, 104, 16, 16, 104, 62, 29, 28, 16, 12, 104, 16, 16, 104, 162, 0, 16, 42, 180, 0, 14, 29]
abbrev dktX5_clear_0 : List UInt8 := dkwX5_clear_0 ++ dktX5_clear_1
theorem dksX5_clear_0 : cX5_clear.data.toList.drop 0 = dktX5_clear_0 := by decide +kernel
theorem dksX5_clear_1 : cX5_clear.data.toList.drop 24 = dktX5_clear_1 := dk_seg dksX5_clear_0 24 rfl rfl
theorem dX5_clear_0 : decode cX5_clear 0 = .ok (.iload_n 1, 1) := dk_27 (dk_at dksX5_clear_0 0 rfl rfl)
theorem dX5_clear_1 : decode cX5_clear 1 = .ok (.bipush 12, 2) := dk_16 12 (dk_at dksX5_clear_0 1 rfl rfl)
theorem dX5_clear_3 : decode cX5_clear 3 = .ok (.imul, 1) := dk_104 (dk_at dksX5_clear_0 3 rfl rfl)
theorem dX5_clear_4 : decode cX5_clear 4 = .ok (.bipush 16, 2) := dk_16 16 (dk_at dksX5_clear_0 4 rfl rfl)
theorem dX5_clear_6 : decode cX5_clear 6 = .ok (.imul, 1) := dk_104 (dk_at dksX5_clear_0 6 rfl rfl)
theorem dX5_clear_7 : decode cX5_clear 7 = .ok (.istore_n 3, 1) := dk_62 (dk_at dksX5_clear_0 7 rfl rfl)
theorem dX5_clear_8 : decode cX5_clear 8 = .ok (.iload_n 3, 1) := dk_29 (dk_at dksX5_clear_0 8 rfl rfl)
theorem dX5_clear_9 : decode cX5_clear 9 = .ok (.iload_n 2, 1) := dk_28 (dk_at dksX5_clear_0 9 rfl rfl)
theorem dX5_clear_10 : decode cX5_clear 10 = .ok (.bipush 12, 2) := dk_16 12 (dk_at dksX5_clear_0 10 rfl rfl)
theorem dX5_clear_12 : decode cX5_clear 12 = .ok (.imul, 1) := dk_104 (dk_at dksX5_clear_0 12 rfl rfl)
theorem dX5_clear_13 : decode cX5_clear 13 = .ok (.bipush 16, 2) := dk_16 16 (dk_at dksX5_clear_0 13 rfl rfl)
theorem dX5_clear_15 : decode cX5_clear 15 = .ok (.imul, 1) := dk_104 (dk_at dksX5_clear_0 15 rfl rfl)
theorem dX5_clear_16 : decode cX5_clear 16 = .ok (.if_icmp .ge 16, 3) := dk_162 0 16 (dk_at dksX5_clear_0 16 rfl rfl)
theorem dX5_clear_19 : decode cX5_clear 19 = .ok (.aload_n 0, 1) := dk_42 (dk_at dksX5_clear_0 19 rfl rfl)
theorem dX5_clear_20 : decode cX5_clear 20 = .ok (.getfield 14, 3) := dk_180 0 14 (dk_at dksX5_clear_0 20 rfl rfl)
theorem dX5_clear_23 : decode cX5_clear 23 = .ok (.iload_n 3, 1) := dk_29 (dk_at dksX5_clear_0 23 rfl rfl)
theorem dX5_clear_24 : decode cX5_clear 24 = .ok (.lconst 0, 1) := dk_9 (dk_at dksX5_clear_1 0 rfl rfl)
theorem dX5_clear_25 : decode cX5_clear 25 = .ok (.lastore, 1) := dk_80 (dk_at dksX5_clear_1 1 rfl rfl)
theorem dX5_clear_26 : decode cX5_clear 26 = .ok (.iinc 3 1, 3) := dk_132 3 1 (dk_at dksX5_clear_1 2 rfl rfl)
theorem dX5_clear_29 : decode cX5_clear 29 = .ok (.goto (-21), 3) := dk_167 255 235 (dk_at dksX5_clear_1 5 rfl rfl)
theorem dX5_clear_32 : decode cX5_clear 32 = .ok (.return_, 1) := dk_177 (dk_at dksX5_clear_1 8 rfl rfl)
abbrev cX5_at : ByteArray := prog_16_method_15_code
def yX5_at : MethodName := ⟨RX5, "at", "(I)I"⟩
def dkwX5_at_2 : List UInt8 := [27, 79, 42, 180, 0, 18, 4, 28, 79, 28, 172]
abbrev dktX5_at_2 : List UInt8 := dkwX5_at_2 ++ []
def dkwX5_at_1 : List UInt8 := [167, 255, 240, 42, 3, 27, 4, 182, 0, 131, 61, 42, 180, 0, 18, 3, 28, 156, 0, 7, 2, 167, 0, 4]
abbrev dktX5_at_1 : List UInt8 := dkwX5_at_1 ++ dktX5_at_2
def dkwX5_at_0 : List UInt8 := [42, 3, 181, 0, 65, 3, 61, 28, 16, 20, 162, 0, 16, 42, 180, 0, 18, 28, 2, 79, 132, 2, 1]
abbrev dktX5_at_0 : List UInt8 := dkwX5_at_0 ++ dktX5_at_1
theorem dksX5_at_0 : cX5_at.data.toList.drop 0 = dktX5_at_0 := by decide +kernel
theorem dksX5_at_1 : cX5_at.data.toList.drop 23 = dktX5_at_1 := dk_seg dksX5_at_0 23 rfl rfl
theorem dksX5_at_2 : cX5_at.data.toList.drop 47 = dktX5_at_2 := dk_seg dksX5_at_1 24 rfl rfl
theorem dX5_at_0 : decode cX5_at 0 = .ok (.aload_n 0, 1) := dk_42 (dk_at dksX5_at_0 0 rfl rfl)
theorem dX5_at_1 : decode cX5_at 1 = .ok (.iconst 0, 1) := dk_3 (dk_at dksX5_at_0 1 rfl rfl)
theorem dX5_at_2 : decode cX5_at 2 = .ok (.putfield 65, 3) := dk_181 0 65 (dk_at dksX5_at_0 2 rfl rfl)
theorem dX5_at_5 : decode cX5_at 5 = .ok (.iconst 0, 1) := dk_3 (dk_at dksX5_at_0 5 rfl rfl)
theorem dX5_at_6 : decode cX5_at 6 = .ok (.istore_n 2, 1) := dk_61 (dk_at dksX5_at_0 6 rfl rfl)
theorem dX5_at_7 : decode cX5_at 7 = .ok (.iload_n 2, 1) := dk_28 (dk_at dksX5_at_0 7 rfl rfl)
theorem dX5_at_8 : decode cX5_at 8 = .ok (.bipush 20, 2) := dk_16 20 (dk_at dksX5_at_0 8 rfl rfl)
theorem dX5_at_10 : decode cX5_at 10 = .ok (.if_icmp .ge 16, 3) := dk_162 0 16 (dk_at dksX5_at_0 10 rfl rfl)
theorem dX5_at_13 : decode cX5_at 13 = .ok (.aload_n 0, 1) := dk_42 (dk_at dksX5_at_0 13 rfl rfl)
theorem dX5_at_14 : decode cX5_at 14 = .ok (.getfield 18, 3) := dk_180 0 18 (dk_at dksX5_at_0 14 rfl rfl)
theorem dX5_at_17 : decode cX5_at 17 = .ok (.iload_n 2, 1) := dk_28 (dk_at dksX5_at_0 17 rfl rfl)
theorem dX5_at_18 : decode cX5_at 18 = .ok (.iconst (-1), 1) := dk_2 (dk_at dksX5_at_0 18 rfl rfl)
theorem dX5_at_19 : decode cX5_at 19 = .ok (.iastore, 1) := dk_79 (dk_at dksX5_at_0 19 rfl rfl)
theorem dX5_at_20 : decode cX5_at 20 = .ok (.iinc 2 1, 3) := dk_132 2 1 (dk_at dksX5_at_0 20 rfl rfl)
theorem dX5_at_23 : decode cX5_at 23 = .ok (.goto (-16), 3) := dk_167 255 240 (dk_at dksX5_at_1 0 rfl rfl)
theorem dX5_at_26 : decode cX5_at 26 = .ok (.aload_n 0, 1) := dk_42 (dk_at dksX5_at_1 3 rfl rfl)
theorem dX5_at_27 : decode cX5_at 27 = .ok (.iconst 0, 1) := dk_3 (dk_at dksX5_at_1 4 rfl rfl)
theorem dX5_at_28 : decode cX5_at 28 = .ok (.iload_n 1, 1) := dk_27 (dk_at dksX5_at_1 5 rfl rfl)
theorem dX5_at_29 : decode cX5_at 29 = .ok (.iconst 1, 1) := dk_4 (dk_at dksX5_at_1 6 rfl rfl)
theorem dX5_at_30 : decode cX5_at 30 = .ok (.invokevirtual 131, 3) := dk_182 0 131 (dk_at dksX5_at_1 7 rfl rfl)
theorem dX5_at_33 : decode cX5_at 33 = .ok (.istore_n 2, 1) := dk_61 (dk_at dksX5_at_1 10 rfl rfl)
theorem dX5_at_34 : decode cX5_at 34 = .ok (.aload_n 0, 1) := dk_42 (dk_at dksX5_at_1 11 rfl rfl)
theorem dX5_at_35 : decode cX5_at 35 = .ok (.getfield 18, 3) := dk_180 0 18 (dk_at dksX5_at_1 12 rfl rfl)
theorem dX5_at_38 : decode cX5_at 38 = .ok (.iconst 0, 1) := dk_3 (dk_at dksX5_at_1 15 rfl rfl)
theorem dX5_at_39 : decode cX5_at 39 = .ok (.iload_n 2, 1) := dk_28 (dk_at dksX5_at_1 16 rfl rfl)
theorem dX5_at_40 : decode cX5_at 40 = .ok (.ifCond .ge 7, 3) := dk_156 0 7 (dk_at dksX5_at_1 17 rfl rfl)
theorem dX5_at_43 : decode cX5_at 43 = .ok (.iconst (-1), 1) := dk_2 (dk_at dksX5_at_1 20 rfl rfl)
theorem dX5_at_44 : decode cX5_at 44 = .ok (.goto 4, 3) := dk_167 0 4 (dk_at dksX5_at_1 21 rfl rfl)
theorem dX5_at_47 : decode cX5_at 47 = .ok (.iload_n 1, 1) := dk_27 (dk_at dksX5_at_2 0 rfl rfl)
theorem dX5_at_48 : decode cX5_at 48 = .ok (.iastore, 1) := dk_79 (dk_at dksX5_at_2 1 rfl rfl)
theorem dX5_at_49 : decode cX5_at 49 = .ok (.aload_n 0, 1) := dk_42 (dk_at dksX5_at_2 2 rfl rfl)
theorem dX5_at_50 : decode cX5_at 50 = .ok (.getfield 18, 3) := dk_180 0 18 (dk_at dksX5_at_2 3 rfl rfl)
theorem dX5_at_53 : decode cX5_at 53 = .ok (.iconst 1, 1) := dk_4 (dk_at dksX5_at_2 6 rfl rfl)
theorem dX5_at_54 : decode cX5_at 54 = .ok (.iload_n 2, 1) := dk_28 (dk_at dksX5_at_2 7 rfl rfl)
theorem dX5_at_55 : decode cX5_at 55 = .ok (.iastore, 1) := dk_79 (dk_at dksX5_at_2 8 rfl rfl)
theorem dX5_at_56 : decode cX5_at 56 = .ok (.iload_n 2, 1) := dk_28 (dk_at dksX5_at_2 9 rfl rfl)
theorem dX5_at_57 : decode cX5_at 57 = .ok (.ireturn, 1) := dk_172 (dk_at dksX5_at_2 10 rfl rfl)
abbrev cX5_run : ByteArray := prog_16_method_11_code
def yX5_run : MethodName := ⟨RX5, "run", "(IIZ)I"⟩
def dkwX5_run_19 : List UInt8 := [180, 0, 39, 180, 0, 108, 21, 5, 46, 5, 163, 0, 6, 132, 6, 1, 132, 5, 1, 167, 254, 46]
abbrev dktX5_run_19 : List UInt8 := dkwX5_run_19 ++ []
def dkwX5_run_18 : List UInt8 := [180, 0, 117, 21, 5, 46, 54, 5, 167, 254, 79, 42, 21, 5, 21, 6, 182, 0, 128, 54, 7, 42]
abbrev dktX5_run_18 : List UInt8 := dkwX5_run_18 ++ dktX5_run_19
def dkwX5_run_17 : List UInt8 := [180, 0, 39, 180, 0, 108, 21, 5, 46, 16, 12, 160, 0, 7, 21, 8, 54, 6, 42, 180, 0, 39]
abbrev dktX5_run_17 : List UInt8 := dkwX5_run_17 ++ dktX5_run_18
def dkwX5_run_16 : List UInt8 := [156, 0, 7, 4, 167, 0, 17, 3, 167, 0, 13, 21, 8, 155, 0, 7, 4, 167, 0, 4, 3, 54, 7, 42]
abbrev dktX5_run_16 : List UInt8 := dkwX5_run_16 ++ dktX5_run_17
def dkwX5_run_15 : List UInt8 := [182, 0, 124, 54, 8, 42, 180, 0, 39, 180, 0, 108, 21, 5, 46, 16, 11, 160, 0, 16, 21, 8]
abbrev dktX5_run_15 : List UInt8 := dkwX5_run_15 ++ dktX5_run_16
def dkwX5_run_14 : List UInt8 := [180, 0, 39, 180, 0, 117, 21, 5, 46, 21, 6, 79, 132, 5, 1, 167, 254, 163, 42, 21, 5, 21, 6]
abbrev dktX5_run_14 : List UInt8 := dkwX5_run_14 ++ dktX5_run_15
def dkwX5_run_13 : List UInt8 := [167, 254, 200, 42, 42, 180, 0, 39, 180, 0, 117, 21, 5, 46, 182, 0, 120, 42, 180, 0, 18, 42]
abbrev dktX5_run_13 : List UInt8 := dkwX5_run_13 ++ dktX5_run_14
def dkwX5_run_12 : List UInt8 := [96, 46, 164, 0, 7, 4, 167, 0, 4, 3, 54, 7, 42, 180, 0, 39, 180, 0, 111, 21, 5, 46, 54, 5]
abbrev dktX5_run_12 : List UInt8 := dkwX5_run_12 ++ dktX5_run_13
def dkwX5_run_11 : List UInt8 := [132, 5, 1, 167, 254, 245, 21, 6, 42, 180, 0, 18, 16, 20, 42, 180, 0, 39, 180, 0, 117, 21, 5, 46]
abbrev dktX5_run_11 : List UInt8 := dkwX5_run_11 ++ dktX5_run_12
def dkwX5_run_10 : List UInt8 := [96, 182, 0, 120, 42, 180, 0, 18, 16, 20, 42, 180, 0, 39, 180, 0, 117, 21, 5, 46, 96, 21, 6, 79]
abbrev dktX5_run_10 : List UInt8 := dkwX5_run_10 ++ dktX5_run_11
def dkwX5_run_9 : List UInt8 := [180, 0, 117, 21, 5, 46, 54, 5, 167, 255, 32, 42, 16, 20, 42, 180, 0, 39, 180, 0, 117, 21, 5, 46]
abbrev dktX5_run_9 : List UInt8 := dkwX5_run_9 ++ dktX5_run_10
def dkwX5_run_8 : List UInt8 := [182, 0, 114, 42, 180, 0, 39, 180, 0, 117, 21, 5, 46, 54, 5, 167, 255, 47, 42, 180, 0, 39]
abbrev dktX5_run_8 : List UInt8 := dkwX5_run_8 ++ dktX5_run_9
def dkwX5_run_7 : List UInt8 := [21, 6, 172, 3, 54, 7, 167, 255, 78, 42, 42, 180, 0, 39, 180, 0, 111, 21, 5, 46, 21, 6]
abbrev dktX5_run_7 : List UInt8 := dkwX5_run_7 ++ dktX5_run_8
def dkwX5_run_6 : List UInt8 := [29, 153, 0, 22, 42, 180, 0, 47, 153, 0, 15, 21, 6, 42, 180, 0, 43, 180, 0, 85, 160, 0, 6]
abbrev dktX5_run_6 : List UInt8 := dkwX5_run_6 ++ dktX5_run_7
def dkwX5_run_5 : List UInt8 := [170, 0, 0, 0, 1, 81, 0, 0, 0, 7, 0, 0, 0, 15, 0, 0, 0, 82, 0, 0, 0, 113, 0, 0, 0, 216, 0, 0, 0, 253, 0, 0, 0, 253, 0, 0, 0, 253, 0, 0, 0, 50, 0, 0, 0, 128, 0, 0, 0, 171]
abbrev dktX5_run_5 : List UInt8 := dkwX5_run_5 ++ dktX5_run_6
def dkwX5_run_4 : List UInt8 := [154, 0, 9, 3, 54, 7, 167, 255, 170, 42, 180, 0, 39, 180, 0, 108, 21, 5, 46]
abbrev dktX5_run_4 : List UInt8 := dkwX5_run_4 ++ dktX5_run_5
def dkwX5_run_3 : List UInt8 := [42, 180, 0, 65, 47, 20, 0, 83, 127, 136, 54, 6, 4, 54, 7, 42, 21, 5, 21, 6, 182, 0, 104]
abbrev dktX5_run_3 : List UInt8 := dkwX5_run_3 ++ dktX5_run_4
def dkwX5_run_2 : List UInt8 := [154, 0, 5, 2, 172, 42, 180, 0, 25, 42, 180, 0, 65, 47, 16, 16, 123, 136, 54, 5, 42, 180, 0, 25]
abbrev dktX5_run_2 : List UInt8 := dkwX5_run_2 ++ dktX5_run_3
def dkwX5_run_1 : List UInt8 := [180, 0, 65, 21, 4, 164, 0, 17, 21, 8, 154, 0, 12, 42, 182, 0, 100, 54, 8, 167, 255, 236, 21, 8]
abbrev dktX5_run_1 : List UInt8 := dkwX5_run_1 ++ dktX5_run_2
def dkwX5_run_0 : List UInt8 := [42, 180, 0, 65, 54, 4, 27, 54, 5, 28, 54, 6, 4, 54, 7, 21, 7, 154, 0, 70, 3, 54, 8, 42]
abbrev dktX5_run_0 : List UInt8 := dkwX5_run_0 ++ dktX5_run_1
theorem dksX5_run_0 : cX5_run.data.toList.drop 0 = dktX5_run_0 := by decide +kernel
theorem dksX5_run_1 : cX5_run.data.toList.drop 24 = dktX5_run_1 := dk_seg dksX5_run_0 24 rfl rfl
theorem dksX5_run_2 : cX5_run.data.toList.drop 48 = dktX5_run_2 := dk_seg dksX5_run_1 24 rfl rfl
theorem dksX5_run_3 : cX5_run.data.toList.drop 72 = dktX5_run_3 := dk_seg dksX5_run_2 24 rfl rfl
theorem dksX5_run_4 : cX5_run.data.toList.drop 95 = dktX5_run_4 := dk_seg dksX5_run_3 23 rfl rfl
theorem dksX5_run_5 : cX5_run.data.toList.drop 114 = dktX5_run_5 := dk_seg dksX5_run_4 19 rfl rfl
theorem dksX5_run_6 : cX5_run.data.toList.drop 164 = dktX5_run_6 := dk_seg dksX5_run_5 50 rfl rfl
theorem dksX5_run_7 : cX5_run.data.toList.drop 187 = dktX5_run_7 := dk_seg dksX5_run_6 23 rfl rfl
theorem dksX5_run_8 : cX5_run.data.toList.drop 209 = dktX5_run_8 := dk_seg dksX5_run_7 22 rfl rfl
theorem dksX5_run_9 : cX5_run.data.toList.drop 231 = dktX5_run_9 := dk_seg dksX5_run_8 22 rfl rfl
theorem dksX5_run_10 : cX5_run.data.toList.drop 255 = dktX5_run_10 := dk_seg dksX5_run_9 24 rfl rfl
theorem dksX5_run_11 : cX5_run.data.toList.drop 279 = dktX5_run_11 := dk_seg dksX5_run_10 24 rfl rfl
theorem dksX5_run_12 : cX5_run.data.toList.drop 303 = dktX5_run_12 := dk_seg dksX5_run_11 24 rfl rfl
theorem dksX5_run_13 : cX5_run.data.toList.drop 327 = dktX5_run_13 := dk_seg dksX5_run_12 24 rfl rfl
theorem dksX5_run_14 : cX5_run.data.toList.drop 349 = dktX5_run_14 := dk_seg dksX5_run_13 22 rfl rfl
theorem dksX5_run_15 : cX5_run.data.toList.drop 372 = dktX5_run_15 := dk_seg dksX5_run_14 23 rfl rfl
theorem dksX5_run_16 : cX5_run.data.toList.drop 394 = dktX5_run_16 := dk_seg dksX5_run_15 22 rfl rfl
theorem dksX5_run_17 : cX5_run.data.toList.drop 418 = dktX5_run_17 := dk_seg dksX5_run_16 24 rfl rfl
theorem dksX5_run_18 : cX5_run.data.toList.drop 440 = dktX5_run_18 := dk_seg dksX5_run_17 22 rfl rfl
theorem dksX5_run_19 : cX5_run.data.toList.drop 462 = dktX5_run_19 := dk_seg dksX5_run_18 22 rfl rfl
theorem dX5_run_0 : decode cX5_run 0 = .ok (.aload_n 0, 1) := dk_42 (dk_at dksX5_run_0 0 rfl rfl)
theorem dX5_run_1 : decode cX5_run 1 = .ok (.getfield 65, 3) := dk_180 0 65 (dk_at dksX5_run_0 1 rfl rfl)
theorem dX5_run_4 : decode cX5_run 4 = .ok (.istore 4, 2) := dk_54 4 (dk_at dksX5_run_0 4 rfl rfl)
theorem dX5_run_6 : decode cX5_run 6 = .ok (.iload_n 1, 1) := dk_27 (dk_at dksX5_run_0 6 rfl rfl)
theorem dX5_run_7 : decode cX5_run 7 = .ok (.istore 5, 2) := dk_54 5 (dk_at dksX5_run_0 7 rfl rfl)
theorem dX5_run_9 : decode cX5_run 9 = .ok (.iload_n 2, 1) := dk_28 (dk_at dksX5_run_0 9 rfl rfl)
theorem dX5_run_10 : decode cX5_run 10 = .ok (.istore 6, 2) := dk_54 6 (dk_at dksX5_run_0 10 rfl rfl)
theorem dX5_run_12 : decode cX5_run 12 = .ok (.iconst 1, 1) := dk_4 (dk_at dksX5_run_0 12 rfl rfl)
theorem dX5_run_13 : decode cX5_run 13 = .ok (.istore 7, 2) := dk_54 7 (dk_at dksX5_run_0 13 rfl rfl)
theorem dX5_run_15 : decode cX5_run 15 = .ok (.iload 7, 2) := dk_21 7 (dk_at dksX5_run_0 15 rfl rfl)
theorem dX5_run_17 : decode cX5_run 17 = .ok (.ifCond .ne 70, 3) := dk_154 0 70 (dk_at dksX5_run_0 17 rfl rfl)
theorem dX5_run_20 : decode cX5_run 20 = .ok (.iconst 0, 1) := dk_3 (dk_at dksX5_run_0 20 rfl rfl)
theorem dX5_run_21 : decode cX5_run 21 = .ok (.istore 8, 2) := dk_54 8 (dk_at dksX5_run_0 21 rfl rfl)
theorem dX5_run_23 : decode cX5_run 23 = .ok (.aload_n 0, 1) := dk_42 (dk_at dksX5_run_0 23 rfl rfl)
theorem dX5_run_24 : decode cX5_run 24 = .ok (.getfield 65, 3) := dk_180 0 65 (dk_at dksX5_run_1 0 rfl rfl)
theorem dX5_run_27 : decode cX5_run 27 = .ok (.iload 4, 2) := dk_21 4 (dk_at dksX5_run_1 3 rfl rfl)
theorem dX5_run_29 : decode cX5_run 29 = .ok (.if_icmp .le 17, 3) := dk_164 0 17 (dk_at dksX5_run_1 5 rfl rfl)
theorem dX5_run_32 : decode cX5_run 32 = .ok (.iload 8, 2) := dk_21 8 (dk_at dksX5_run_1 8 rfl rfl)
theorem dX5_run_34 : decode cX5_run 34 = .ok (.ifCond .ne 12, 3) := dk_154 0 12 (dk_at dksX5_run_1 10 rfl rfl)
theorem dX5_run_37 : decode cX5_run 37 = .ok (.aload_n 0, 1) := dk_42 (dk_at dksX5_run_1 13 rfl rfl)
theorem dX5_run_38 : decode cX5_run 38 = .ok (.invokevirtual 100, 3) := dk_182 0 100 (dk_at dksX5_run_1 14 rfl rfl)
theorem dX5_run_41 : decode cX5_run 41 = .ok (.istore 8, 2) := dk_54 8 (dk_at dksX5_run_1 17 rfl rfl)
theorem dX5_run_43 : decode cX5_run 43 = .ok (.goto (-20), 3) := dk_167 255 236 (dk_at dksX5_run_1 19 rfl rfl)
theorem dX5_run_46 : decode cX5_run 46 = .ok (.iload 8, 2) := dk_21 8 (dk_at dksX5_run_1 22 rfl rfl)
theorem dX5_run_48 : decode cX5_run 48 = .ok (.ifCond .ne 5, 3) := dk_154 0 5 (dk_at dksX5_run_2 0 rfl rfl)
theorem dX5_run_51 : decode cX5_run 51 = .ok (.iconst (-1), 1) := dk_2 (dk_at dksX5_run_2 3 rfl rfl)
theorem dX5_run_52 : decode cX5_run 52 = .ok (.ireturn, 1) := dk_172 (dk_at dksX5_run_2 4 rfl rfl)
theorem dX5_run_53 : decode cX5_run 53 = .ok (.aload_n 0, 1) := dk_42 (dk_at dksX5_run_2 5 rfl rfl)
theorem dX5_run_54 : decode cX5_run 54 = .ok (.getfield 25, 3) := dk_180 0 25 (dk_at dksX5_run_2 6 rfl rfl)
theorem dX5_run_57 : decode cX5_run 57 = .ok (.aload_n 0, 1) := dk_42 (dk_at dksX5_run_2 9 rfl rfl)
theorem dX5_run_58 : decode cX5_run 58 = .ok (.getfield 65, 3) := dk_180 0 65 (dk_at dksX5_run_2 10 rfl rfl)
theorem dX5_run_61 : decode cX5_run 61 = .ok (.laload, 1) := dk_47 (dk_at dksX5_run_2 13 rfl rfl)
theorem dX5_run_62 : decode cX5_run 62 = .ok (.bipush 16, 2) := dk_16 16 (dk_at dksX5_run_2 14 rfl rfl)
theorem dX5_run_64 : decode cX5_run 64 = .ok (.lshr, 1) := dk_123 (dk_at dksX5_run_2 16 rfl rfl)
theorem dX5_run_65 : decode cX5_run 65 = .ok (.l2i, 1) := dk_136 (dk_at dksX5_run_2 17 rfl rfl)
theorem dX5_run_66 : decode cX5_run 66 = .ok (.istore 5, 2) := dk_54 5 (dk_at dksX5_run_2 18 rfl rfl)
theorem dX5_run_68 : decode cX5_run 68 = .ok (.aload_n 0, 1) := dk_42 (dk_at dksX5_run_2 20 rfl rfl)
theorem dX5_run_69 : decode cX5_run 69 = .ok (.getfield 25, 3) := dk_180 0 25 (dk_at dksX5_run_2 21 rfl rfl)
theorem dX5_run_72 : decode cX5_run 72 = .ok (.aload_n 0, 1) := dk_42 (dk_at dksX5_run_3 0 rfl rfl)
theorem dX5_run_73 : decode cX5_run 73 = .ok (.getfield 65, 3) := dk_180 0 65 (dk_at dksX5_run_3 1 rfl rfl)
theorem dX5_run_76 : decode cX5_run 76 = .ok (.laload, 1) := dk_47 (dk_at dksX5_run_3 4 rfl rfl)
theorem dX5_run_77 : decode cX5_run 77 = .ok (.ldc2_w 83, 3) := dk_20 0 83 (dk_at dksX5_run_3 5 rfl rfl)
theorem dX5_run_80 : decode cX5_run 80 = .ok (.land, 1) := dk_127 (dk_at dksX5_run_3 8 rfl rfl)
theorem dX5_run_81 : decode cX5_run 81 = .ok (.l2i, 1) := dk_136 (dk_at dksX5_run_3 9 rfl rfl)
theorem dX5_run_82 : decode cX5_run 82 = .ok (.istore 6, 2) := dk_54 6 (dk_at dksX5_run_3 10 rfl rfl)
theorem dX5_run_84 : decode cX5_run 84 = .ok (.iconst 1, 1) := dk_4 (dk_at dksX5_run_3 12 rfl rfl)
theorem dX5_run_85 : decode cX5_run 85 = .ok (.istore 7, 2) := dk_54 7 (dk_at dksX5_run_3 13 rfl rfl)
theorem dX5_run_87 : decode cX5_run 87 = .ok (.aload_n 0, 1) := dk_42 (dk_at dksX5_run_3 15 rfl rfl)
theorem dX5_run_88 : decode cX5_run 88 = .ok (.iload 5, 2) := dk_21 5 (dk_at dksX5_run_3 16 rfl rfl)
theorem dX5_run_90 : decode cX5_run 90 = .ok (.iload 6, 2) := dk_21 6 (dk_at dksX5_run_3 18 rfl rfl)
theorem dX5_run_92 : decode cX5_run 92 = .ok (.invokevirtual 104, 3) := dk_182 0 104 (dk_at dksX5_run_3 20 rfl rfl)
theorem dX5_run_95 : decode cX5_run 95 = .ok (.ifCond .ne 9, 3) := dk_154 0 9 (dk_at dksX5_run_4 0 rfl rfl)
theorem dX5_run_98 : decode cX5_run 98 = .ok (.iconst 0, 1) := dk_3 (dk_at dksX5_run_4 3 rfl rfl)
theorem dX5_run_99 : decode cX5_run 99 = .ok (.istore 7, 2) := dk_54 7 (dk_at dksX5_run_4 4 rfl rfl)
theorem dX5_run_101 : decode cX5_run 101 = .ok (.goto (-86), 3) := dk_167 255 170 (dk_at dksX5_run_4 6 rfl rfl)
theorem dX5_run_104 : decode cX5_run 104 = .ok (.aload_n 0, 1) := dk_42 (dk_at dksX5_run_4 9 rfl rfl)
theorem dX5_run_105 : decode cX5_run 105 = .ok (.getfield 39, 3) := dk_180 0 39 (dk_at dksX5_run_4 10 rfl rfl)
theorem dX5_run_108 : decode cX5_run 108 = .ok (.getfield 108, 3) := dk_180 0 108 (dk_at dksX5_run_4 13 rfl rfl)
theorem dX5_run_111 : decode cX5_run 111 = .ok (.iload 5, 2) := dk_21 5 (dk_at dksX5_run_4 16 rfl rfl)
theorem dX5_run_113 : decode cX5_run 113 = .ok (.iaload, 1) := dk_46 (dk_at dksX5_run_4 18 rfl rfl)
theorem dX5_run_114 : decode cX5_run 114 = .ok (.tableswitch 337 7 15 #[82, 113, 216, 253, 253, 253, 50, 128, 171], 50) := by decide +kernel
theorem dX5_run_164 : decode cX5_run 164 = .ok (.iload_n 3, 1) := dk_29 (dk_at dksX5_run_6 0 rfl rfl)
theorem dX5_run_165 : decode cX5_run 165 = .ok (.ifCond .eq 22, 3) := dk_153 0 22 (dk_at dksX5_run_6 1 rfl rfl)
theorem dX5_run_168 : decode cX5_run 168 = .ok (.aload_n 0, 1) := dk_42 (dk_at dksX5_run_6 4 rfl rfl)
theorem dX5_run_169 : decode cX5_run 169 = .ok (.getfield 47, 3) := dk_180 0 47 (dk_at dksX5_run_6 5 rfl rfl)
theorem dX5_run_172 : decode cX5_run 172 = .ok (.ifCond .eq 15, 3) := dk_153 0 15 (dk_at dksX5_run_6 8 rfl rfl)
theorem dX5_run_175 : decode cX5_run 175 = .ok (.iload 6, 2) := dk_21 6 (dk_at dksX5_run_6 11 rfl rfl)
theorem dX5_run_177 : decode cX5_run 177 = .ok (.aload_n 0, 1) := dk_42 (dk_at dksX5_run_6 13 rfl rfl)
theorem dX5_run_178 : decode cX5_run 178 = .ok (.getfield 43, 3) := dk_180 0 43 (dk_at dksX5_run_6 14 rfl rfl)
theorem dX5_run_181 : decode cX5_run 181 = .ok (.getfield 85, 3) := dk_180 0 85 (dk_at dksX5_run_6 17 rfl rfl)
theorem dX5_run_184 : decode cX5_run 184 = .ok (.if_icmp .ne 6, 3) := dk_160 0 6 (dk_at dksX5_run_6 20 rfl rfl)
theorem dX5_run_187 : decode cX5_run 187 = .ok (.iload 6, 2) := dk_21 6 (dk_at dksX5_run_7 0 rfl rfl)
theorem dX5_run_189 : decode cX5_run 189 = .ok (.ireturn, 1) := dk_172 (dk_at dksX5_run_7 2 rfl rfl)
theorem dX5_run_190 : decode cX5_run 190 = .ok (.iconst 0, 1) := dk_3 (dk_at dksX5_run_7 3 rfl rfl)
theorem dX5_run_191 : decode cX5_run 191 = .ok (.istore 7, 2) := dk_54 7 (dk_at dksX5_run_7 4 rfl rfl)
theorem dX5_run_193 : decode cX5_run 193 = .ok (.goto (-178), 3) := dk_167 255 78 (dk_at dksX5_run_7 6 rfl rfl)
theorem dX5_run_196 : decode cX5_run 196 = .ok (.aload_n 0, 1) := dk_42 (dk_at dksX5_run_7 9 rfl rfl)
theorem dX5_run_197 : decode cX5_run 197 = .ok (.aload_n 0, 1) := dk_42 (dk_at dksX5_run_7 10 rfl rfl)
theorem dX5_run_198 : decode cX5_run 198 = .ok (.getfield 39, 3) := dk_180 0 39 (dk_at dksX5_run_7 11 rfl rfl)
theorem dX5_run_201 : decode cX5_run 201 = .ok (.getfield 111, 3) := dk_180 0 111 (dk_at dksX5_run_7 14 rfl rfl)
theorem dX5_run_204 : decode cX5_run 204 = .ok (.iload 5, 2) := dk_21 5 (dk_at dksX5_run_7 17 rfl rfl)
theorem dX5_run_206 : decode cX5_run 206 = .ok (.iaload, 1) := dk_46 (dk_at dksX5_run_7 19 rfl rfl)
theorem dX5_run_207 : decode cX5_run 207 = .ok (.iload 6, 2) := dk_21 6 (dk_at dksX5_run_7 20 rfl rfl)
theorem dX5_run_209 : decode cX5_run 209 = .ok (.invokevirtual 114, 3) := dk_182 0 114 (dk_at dksX5_run_8 0 rfl rfl)
theorem dX5_run_212 : decode cX5_run 212 = .ok (.aload_n 0, 1) := dk_42 (dk_at dksX5_run_8 3 rfl rfl)
theorem dX5_run_213 : decode cX5_run 213 = .ok (.getfield 39, 3) := dk_180 0 39 (dk_at dksX5_run_8 4 rfl rfl)
theorem dX5_run_216 : decode cX5_run 216 = .ok (.getfield 117, 3) := dk_180 0 117 (dk_at dksX5_run_8 7 rfl rfl)
theorem dX5_run_219 : decode cX5_run 219 = .ok (.iload 5, 2) := dk_21 5 (dk_at dksX5_run_8 10 rfl rfl)
theorem dX5_run_221 : decode cX5_run 221 = .ok (.iaload, 1) := dk_46 (dk_at dksX5_run_8 12 rfl rfl)
theorem dX5_run_222 : decode cX5_run 222 = .ok (.istore 5, 2) := dk_54 5 (dk_at dksX5_run_8 13 rfl rfl)
theorem dX5_run_224 : decode cX5_run 224 = .ok (.goto (-209), 3) := dk_167 255 47 (dk_at dksX5_run_8 15 rfl rfl)
theorem dX5_run_227 : decode cX5_run 227 = .ok (.aload_n 0, 1) := dk_42 (dk_at dksX5_run_8 18 rfl rfl)
theorem dX5_run_228 : decode cX5_run 228 = .ok (.getfield 39, 3) := dk_180 0 39 (dk_at dksX5_run_8 19 rfl rfl)
theorem dX5_run_231 : decode cX5_run 231 = .ok (.getfield 117, 3) := dk_180 0 117 (dk_at dksX5_run_9 0 rfl rfl)
theorem dX5_run_234 : decode cX5_run 234 = .ok (.iload 5, 2) := dk_21 5 (dk_at dksX5_run_9 3 rfl rfl)
theorem dX5_run_236 : decode cX5_run 236 = .ok (.iaload, 1) := dk_46 (dk_at dksX5_run_9 5 rfl rfl)
theorem dX5_run_237 : decode cX5_run 237 = .ok (.istore 5, 2) := dk_54 5 (dk_at dksX5_run_9 6 rfl rfl)
theorem dX5_run_239 : decode cX5_run 239 = .ok (.goto (-224), 3) := dk_167 255 32 (dk_at dksX5_run_9 8 rfl rfl)
theorem dX5_run_242 : decode cX5_run 242 = .ok (.aload_n 0, 1) := dk_42 (dk_at dksX5_run_9 11 rfl rfl)
theorem dX5_run_243 : decode cX5_run 243 = .ok (.bipush 20, 2) := dk_16 20 (dk_at dksX5_run_9 12 rfl rfl)
theorem dX5_run_245 : decode cX5_run 245 = .ok (.aload_n 0, 1) := dk_42 (dk_at dksX5_run_9 14 rfl rfl)
theorem dX5_run_246 : decode cX5_run 246 = .ok (.getfield 39, 3) := dk_180 0 39 (dk_at dksX5_run_9 15 rfl rfl)
theorem dX5_run_249 : decode cX5_run 249 = .ok (.getfield 117, 3) := dk_180 0 117 (dk_at dksX5_run_9 18 rfl rfl)
theorem dX5_run_252 : decode cX5_run 252 = .ok (.iload 5, 2) := dk_21 5 (dk_at dksX5_run_9 21 rfl rfl)
theorem dX5_run_254 : decode cX5_run 254 = .ok (.iaload, 1) := dk_46 (dk_at dksX5_run_9 23 rfl rfl)
theorem dX5_run_255 : decode cX5_run 255 = .ok (.iadd, 1) := dk_96 (dk_at dksX5_run_10 0 rfl rfl)
theorem dX5_run_256 : decode cX5_run 256 = .ok (.invokevirtual 120, 3) := dk_182 0 120 (dk_at dksX5_run_10 1 rfl rfl)
theorem dX5_run_259 : decode cX5_run 259 = .ok (.aload_n 0, 1) := dk_42 (dk_at dksX5_run_10 4 rfl rfl)
theorem dX5_run_260 : decode cX5_run 260 = .ok (.getfield 18, 3) := dk_180 0 18 (dk_at dksX5_run_10 5 rfl rfl)
theorem dX5_run_263 : decode cX5_run 263 = .ok (.bipush 20, 2) := dk_16 20 (dk_at dksX5_run_10 8 rfl rfl)
theorem dX5_run_265 : decode cX5_run 265 = .ok (.aload_n 0, 1) := dk_42 (dk_at dksX5_run_10 10 rfl rfl)
theorem dX5_run_266 : decode cX5_run 266 = .ok (.getfield 39, 3) := dk_180 0 39 (dk_at dksX5_run_10 11 rfl rfl)
theorem dX5_run_269 : decode cX5_run 269 = .ok (.getfield 117, 3) := dk_180 0 117 (dk_at dksX5_run_10 14 rfl rfl)
theorem dX5_run_272 : decode cX5_run 272 = .ok (.iload 5, 2) := dk_21 5 (dk_at dksX5_run_10 17 rfl rfl)
theorem dX5_run_274 : decode cX5_run 274 = .ok (.iaload, 1) := dk_46 (dk_at dksX5_run_10 19 rfl rfl)
theorem dX5_run_275 : decode cX5_run 275 = .ok (.iadd, 1) := dk_96 (dk_at dksX5_run_10 20 rfl rfl)
theorem dX5_run_276 : decode cX5_run 276 = .ok (.iload 6, 2) := dk_21 6 (dk_at dksX5_run_10 21 rfl rfl)
theorem dX5_run_278 : decode cX5_run 278 = .ok (.iastore, 1) := dk_79 (dk_at dksX5_run_10 23 rfl rfl)
theorem dX5_run_279 : decode cX5_run 279 = .ok (.iinc 5 1, 3) := dk_132 5 1 (dk_at dksX5_run_11 0 rfl rfl)
theorem dX5_run_282 : decode cX5_run 282 = .ok (.goto (-267), 3) := dk_167 254 245 (dk_at dksX5_run_11 3 rfl rfl)
theorem dX5_run_285 : decode cX5_run 285 = .ok (.iload 6, 2) := dk_21 6 (dk_at dksX5_run_11 6 rfl rfl)
theorem dX5_run_287 : decode cX5_run 287 = .ok (.aload_n 0, 1) := dk_42 (dk_at dksX5_run_11 8 rfl rfl)
theorem dX5_run_288 : decode cX5_run 288 = .ok (.getfield 18, 3) := dk_180 0 18 (dk_at dksX5_run_11 9 rfl rfl)
theorem dX5_run_291 : decode cX5_run 291 = .ok (.bipush 20, 2) := dk_16 20 (dk_at dksX5_run_11 12 rfl rfl)
theorem dX5_run_293 : decode cX5_run 293 = .ok (.aload_n 0, 1) := dk_42 (dk_at dksX5_run_11 14 rfl rfl)
theorem dX5_run_294 : decode cX5_run 294 = .ok (.getfield 39, 3) := dk_180 0 39 (dk_at dksX5_run_11 15 rfl rfl)
theorem dX5_run_297 : decode cX5_run 297 = .ok (.getfield 117, 3) := dk_180 0 117 (dk_at dksX5_run_11 18 rfl rfl)
theorem dX5_run_300 : decode cX5_run 300 = .ok (.iload 5, 2) := dk_21 5 (dk_at dksX5_run_11 21 rfl rfl)
theorem dX5_run_302 : decode cX5_run 302 = .ok (.iaload, 1) := dk_46 (dk_at dksX5_run_11 23 rfl rfl)
theorem dX5_run_303 : decode cX5_run 303 = .ok (.iadd, 1) := dk_96 (dk_at dksX5_run_12 0 rfl rfl)
theorem dX5_run_304 : decode cX5_run 304 = .ok (.iaload, 1) := dk_46 (dk_at dksX5_run_12 1 rfl rfl)
theorem dX5_run_305 : decode cX5_run 305 = .ok (.if_icmp .le 7, 3) := dk_164 0 7 (dk_at dksX5_run_12 2 rfl rfl)
theorem dX5_run_308 : decode cX5_run 308 = .ok (.iconst 1, 1) := dk_4 (dk_at dksX5_run_12 5 rfl rfl)
theorem dX5_run_309 : decode cX5_run 309 = .ok (.goto 4, 3) := dk_167 0 4 (dk_at dksX5_run_12 6 rfl rfl)
theorem dX5_run_312 : decode cX5_run 312 = .ok (.iconst 0, 1) := dk_3 (dk_at dksX5_run_12 9 rfl rfl)
theorem dX5_run_313 : decode cX5_run 313 = .ok (.istore 7, 2) := dk_54 7 (dk_at dksX5_run_12 10 rfl rfl)
theorem dX5_run_315 : decode cX5_run 315 = .ok (.aload_n 0, 1) := dk_42 (dk_at dksX5_run_12 12 rfl rfl)
theorem dX5_run_316 : decode cX5_run 316 = .ok (.getfield 39, 3) := dk_180 0 39 (dk_at dksX5_run_12 13 rfl rfl)
theorem dX5_run_319 : decode cX5_run 319 = .ok (.getfield 111, 3) := dk_180 0 111 (dk_at dksX5_run_12 16 rfl rfl)
theorem dX5_run_322 : decode cX5_run 322 = .ok (.iload 5, 2) := dk_21 5 (dk_at dksX5_run_12 19 rfl rfl)
theorem dX5_run_324 : decode cX5_run 324 = .ok (.iaload, 1) := dk_46 (dk_at dksX5_run_12 21 rfl rfl)
theorem dX5_run_325 : decode cX5_run 325 = .ok (.istore 5, 2) := dk_54 5 (dk_at dksX5_run_12 22 rfl rfl)
theorem dX5_run_327 : decode cX5_run 327 = .ok (.goto (-312), 3) := dk_167 254 200 (dk_at dksX5_run_13 0 rfl rfl)
theorem dX5_run_330 : decode cX5_run 330 = .ok (.aload_n 0, 1) := dk_42 (dk_at dksX5_run_13 3 rfl rfl)
theorem dX5_run_331 : decode cX5_run 331 = .ok (.aload_n 0, 1) := dk_42 (dk_at dksX5_run_13 4 rfl rfl)
theorem dX5_run_332 : decode cX5_run 332 = .ok (.getfield 39, 3) := dk_180 0 39 (dk_at dksX5_run_13 5 rfl rfl)
theorem dX5_run_335 : decode cX5_run 335 = .ok (.getfield 117, 3) := dk_180 0 117 (dk_at dksX5_run_13 8 rfl rfl)
theorem dX5_run_338 : decode cX5_run 338 = .ok (.iload 5, 2) := dk_21 5 (dk_at dksX5_run_13 11 rfl rfl)
theorem dX5_run_340 : decode cX5_run 340 = .ok (.iaload, 1) := dk_46 (dk_at dksX5_run_13 13 rfl rfl)
theorem dX5_run_341 : decode cX5_run 341 = .ok (.invokevirtual 120, 3) := dk_182 0 120 (dk_at dksX5_run_13 14 rfl rfl)
theorem dX5_run_344 : decode cX5_run 344 = .ok (.aload_n 0, 1) := dk_42 (dk_at dksX5_run_13 17 rfl rfl)
theorem dX5_run_345 : decode cX5_run 345 = .ok (.getfield 18, 3) := dk_180 0 18 (dk_at dksX5_run_13 18 rfl rfl)
theorem dX5_run_348 : decode cX5_run 348 = .ok (.aload_n 0, 1) := dk_42 (dk_at dksX5_run_13 21 rfl rfl)
theorem dX5_run_349 : decode cX5_run 349 = .ok (.getfield 39, 3) := dk_180 0 39 (dk_at dksX5_run_14 0 rfl rfl)
theorem dX5_run_352 : decode cX5_run 352 = .ok (.getfield 117, 3) := dk_180 0 117 (dk_at dksX5_run_14 3 rfl rfl)
theorem dX5_run_355 : decode cX5_run 355 = .ok (.iload 5, 2) := dk_21 5 (dk_at dksX5_run_14 6 rfl rfl)
theorem dX5_run_357 : decode cX5_run 357 = .ok (.iaload, 1) := dk_46 (dk_at dksX5_run_14 8 rfl rfl)
theorem dX5_run_358 : decode cX5_run 358 = .ok (.iload 6, 2) := dk_21 6 (dk_at dksX5_run_14 9 rfl rfl)
theorem dX5_run_360 : decode cX5_run 360 = .ok (.iastore, 1) := dk_79 (dk_at dksX5_run_14 11 rfl rfl)
theorem dX5_run_361 : decode cX5_run 361 = .ok (.iinc 5 1, 3) := dk_132 5 1 (dk_at dksX5_run_14 12 rfl rfl)
theorem dX5_run_364 : decode cX5_run 364 = .ok (.goto (-349), 3) := dk_167 254 163 (dk_at dksX5_run_14 15 rfl rfl)
theorem dX5_run_367 : decode cX5_run 367 = .ok (.aload_n 0, 1) := dk_42 (dk_at dksX5_run_14 18 rfl rfl)
theorem dX5_run_368 : decode cX5_run 368 = .ok (.iload 5, 2) := dk_21 5 (dk_at dksX5_run_14 19 rfl rfl)
theorem dX5_run_370 : decode cX5_run 370 = .ok (.iload 6, 2) := dk_21 6 (dk_at dksX5_run_14 21 rfl rfl)
theorem dX5_run_372 : decode cX5_run 372 = .ok (.invokevirtual 124, 3) := dk_182 0 124 (dk_at dksX5_run_15 0 rfl rfl)
theorem dX5_run_375 : decode cX5_run 375 = .ok (.istore 8, 2) := dk_54 8 (dk_at dksX5_run_15 3 rfl rfl)
theorem dX5_run_377 : decode cX5_run 377 = .ok (.aload_n 0, 1) := dk_42 (dk_at dksX5_run_15 5 rfl rfl)
theorem dX5_run_378 : decode cX5_run 378 = .ok (.getfield 39, 3) := dk_180 0 39 (dk_at dksX5_run_15 6 rfl rfl)
theorem dX5_run_381 : decode cX5_run 381 = .ok (.getfield 108, 3) := dk_180 0 108 (dk_at dksX5_run_15 9 rfl rfl)
theorem dX5_run_384 : decode cX5_run 384 = .ok (.iload 5, 2) := dk_21 5 (dk_at dksX5_run_15 12 rfl rfl)
theorem dX5_run_386 : decode cX5_run 386 = .ok (.iaload, 1) := dk_46 (dk_at dksX5_run_15 14 rfl rfl)
theorem dX5_run_387 : decode cX5_run 387 = .ok (.bipush 11, 2) := dk_16 11 (dk_at dksX5_run_15 15 rfl rfl)
theorem dX5_run_389 : decode cX5_run 389 = .ok (.if_icmp .ne 16, 3) := dk_160 0 16 (dk_at dksX5_run_15 17 rfl rfl)
theorem dX5_run_392 : decode cX5_run 392 = .ok (.iload 8, 2) := dk_21 8 (dk_at dksX5_run_15 20 rfl rfl)
theorem dX5_run_394 : decode cX5_run 394 = .ok (.ifCond .ge 7, 3) := dk_156 0 7 (dk_at dksX5_run_16 0 rfl rfl)
theorem dX5_run_397 : decode cX5_run 397 = .ok (.iconst 1, 1) := dk_4 (dk_at dksX5_run_16 3 rfl rfl)
theorem dX5_run_398 : decode cX5_run 398 = .ok (.goto 17, 3) := dk_167 0 17 (dk_at dksX5_run_16 4 rfl rfl)
theorem dX5_run_401 : decode cX5_run 401 = .ok (.iconst 0, 1) := dk_3 (dk_at dksX5_run_16 7 rfl rfl)
theorem dX5_run_402 : decode cX5_run 402 = .ok (.goto 13, 3) := dk_167 0 13 (dk_at dksX5_run_16 8 rfl rfl)
theorem dX5_run_405 : decode cX5_run 405 = .ok (.iload 8, 2) := dk_21 8 (dk_at dksX5_run_16 11 rfl rfl)
theorem dX5_run_407 : decode cX5_run 407 = .ok (.ifCond .lt 7, 3) := dk_155 0 7 (dk_at dksX5_run_16 13 rfl rfl)
theorem dX5_run_410 : decode cX5_run 410 = .ok (.iconst 1, 1) := dk_4 (dk_at dksX5_run_16 16 rfl rfl)
theorem dX5_run_411 : decode cX5_run 411 = .ok (.goto 4, 3) := dk_167 0 4 (dk_at dksX5_run_16 17 rfl rfl)
theorem dX5_run_414 : decode cX5_run 414 = .ok (.iconst 0, 1) := dk_3 (dk_at dksX5_run_16 20 rfl rfl)
theorem dX5_run_415 : decode cX5_run 415 = .ok (.istore 7, 2) := dk_54 7 (dk_at dksX5_run_16 21 rfl rfl)
theorem dX5_run_417 : decode cX5_run 417 = .ok (.aload_n 0, 1) := dk_42 (dk_at dksX5_run_16 23 rfl rfl)
theorem dX5_run_418 : decode cX5_run 418 = .ok (.getfield 39, 3) := dk_180 0 39 (dk_at dksX5_run_17 0 rfl rfl)
theorem dX5_run_421 : decode cX5_run 421 = .ok (.getfield 108, 3) := dk_180 0 108 (dk_at dksX5_run_17 3 rfl rfl)
theorem dX5_run_424 : decode cX5_run 424 = .ok (.iload 5, 2) := dk_21 5 (dk_at dksX5_run_17 6 rfl rfl)
theorem dX5_run_426 : decode cX5_run 426 = .ok (.iaload, 1) := dk_46 (dk_at dksX5_run_17 8 rfl rfl)
theorem dX5_run_427 : decode cX5_run 427 = .ok (.bipush 12, 2) := dk_16 12 (dk_at dksX5_run_17 9 rfl rfl)
theorem dX5_run_429 : decode cX5_run 429 = .ok (.if_icmp .ne 7, 3) := dk_160 0 7 (dk_at dksX5_run_17 11 rfl rfl)
theorem dX5_run_432 : decode cX5_run 432 = .ok (.iload 8, 2) := dk_21 8 (dk_at dksX5_run_17 14 rfl rfl)
theorem dX5_run_434 : decode cX5_run 434 = .ok (.istore 6, 2) := dk_54 6 (dk_at dksX5_run_17 16 rfl rfl)
theorem dX5_run_436 : decode cX5_run 436 = .ok (.aload_n 0, 1) := dk_42 (dk_at dksX5_run_17 18 rfl rfl)
theorem dX5_run_437 : decode cX5_run 437 = .ok (.getfield 39, 3) := dk_180 0 39 (dk_at dksX5_run_17 19 rfl rfl)
theorem dX5_run_440 : decode cX5_run 440 = .ok (.getfield 117, 3) := dk_180 0 117 (dk_at dksX5_run_18 0 rfl rfl)
theorem dX5_run_443 : decode cX5_run 443 = .ok (.iload 5, 2) := dk_21 5 (dk_at dksX5_run_18 3 rfl rfl)
theorem dX5_run_445 : decode cX5_run 445 = .ok (.iaload, 1) := dk_46 (dk_at dksX5_run_18 5 rfl rfl)
theorem dX5_run_446 : decode cX5_run 446 = .ok (.istore 5, 2) := dk_54 5 (dk_at dksX5_run_18 6 rfl rfl)
theorem dX5_run_448 : decode cX5_run 448 = .ok (.goto (-433), 3) := dk_167 254 79 (dk_at dksX5_run_18 8 rfl rfl)
theorem dX5_run_451 : decode cX5_run 451 = .ok (.aload_n 0, 1) := dk_42 (dk_at dksX5_run_18 11 rfl rfl)
theorem dX5_run_452 : decode cX5_run 452 = .ok (.iload 5, 2) := dk_21 5 (dk_at dksX5_run_18 12 rfl rfl)
theorem dX5_run_454 : decode cX5_run 454 = .ok (.iload 6, 2) := dk_21 6 (dk_at dksX5_run_18 14 rfl rfl)
theorem dX5_run_456 : decode cX5_run 456 = .ok (.invokevirtual 128, 3) := dk_182 0 128 (dk_at dksX5_run_18 16 rfl rfl)
theorem dX5_run_459 : decode cX5_run 459 = .ok (.istore 7, 2) := dk_54 7 (dk_at dksX5_run_18 19 rfl rfl)
theorem dX5_run_461 : decode cX5_run 461 = .ok (.aload_n 0, 1) := dk_42 (dk_at dksX5_run_18 21 rfl rfl)
theorem dX5_run_462 : decode cX5_run 462 = .ok (.getfield 39, 3) := dk_180 0 39 (dk_at dksX5_run_19 0 rfl rfl)
theorem dX5_run_465 : decode cX5_run 465 = .ok (.getfield 108, 3) := dk_180 0 108 (dk_at dksX5_run_19 3 rfl rfl)
theorem dX5_run_468 : decode cX5_run 468 = .ok (.iload 5, 2) := dk_21 5 (dk_at dksX5_run_19 6 rfl rfl)
theorem dX5_run_470 : decode cX5_run 470 = .ok (.iaload, 1) := dk_46 (dk_at dksX5_run_19 8 rfl rfl)
theorem dX5_run_471 : decode cX5_run 471 = .ok (.iconst 2, 1) := dk_5 (dk_at dksX5_run_19 9 rfl rfl)
theorem dX5_run_472 : decode cX5_run 472 = .ok (.if_icmp .gt 6, 3) := dk_163 0 6 (dk_at dksX5_run_19 10 rfl rfl)
theorem dX5_run_475 : decode cX5_run 475 = .ok (.iinc 6 1, 3) := dk_132 6 1 (dk_at dksX5_run_19 13 rfl rfl)
theorem dX5_run_478 : decode cX5_run 478 = .ok (.iinc 5 1, 3) := dk_132 5 1 (dk_at dksX5_run_19 16 rfl rfl)
theorem dX5_run_481 : decode cX5_run 481 = .ok (.goto (-466), 3) := dk_167 254 46 (dk_at dksX5_run_19 19 rfl rfl)
abbrev cX5_pop : ByteArray := prog_16_method_9_code
def yX5_pop : MethodName := ⟨RX5, "pop", "()Z"⟩
def dkwX5_pop_2 : List UInt8 := [127, 136, 4, 100, 79, 3, 172]
abbrev dktX5_pop_2 : List UInt8 := dkwX5_pop_2 ++ []
def dkwX5_pop_1 : List UInt8 := [9, 148, 154, 0, 5, 4, 172, 42, 180, 0, 18, 31, 16, 16, 123, 20, 0, 83, 127, 136, 31, 20, 0, 83]
abbrev dktX5_pop_1 : List UInt8 := dkwX5_pop_1 ++ dktX5_pop_2
def dkwX5_pop_0 : List UInt8 := [42, 89, 180, 0, 65, 4, 100, 181, 0, 65, 42, 180, 0, 25, 42, 180, 0, 65, 47, 64, 31, 16, 40, 123]
abbrev dktX5_pop_0 : List UInt8 := dkwX5_pop_0 ++ dktX5_pop_1
theorem dksX5_pop_0 : cX5_pop.data.toList.drop 0 = dktX5_pop_0 := by decide +kernel
theorem dksX5_pop_1 : cX5_pop.data.toList.drop 24 = dktX5_pop_1 := dk_seg dksX5_pop_0 24 rfl rfl
theorem dksX5_pop_2 : cX5_pop.data.toList.drop 48 = dktX5_pop_2 := dk_seg dksX5_pop_1 24 rfl rfl
theorem dX5_pop_0 : decode cX5_pop 0 = .ok (.aload_n 0, 1) := dk_42 (dk_at dksX5_pop_0 0 rfl rfl)
theorem dX5_pop_1 : decode cX5_pop 1 = .ok (.dup, 1) := dk_89 (dk_at dksX5_pop_0 1 rfl rfl)
theorem dX5_pop_2 : decode cX5_pop 2 = .ok (.getfield 65, 3) := dk_180 0 65 (dk_at dksX5_pop_0 2 rfl rfl)
theorem dX5_pop_5 : decode cX5_pop 5 = .ok (.iconst 1, 1) := dk_4 (dk_at dksX5_pop_0 5 rfl rfl)
theorem dX5_pop_6 : decode cX5_pop 6 = .ok (.isub, 1) := dk_100 (dk_at dksX5_pop_0 6 rfl rfl)
theorem dX5_pop_7 : decode cX5_pop 7 = .ok (.putfield 65, 3) := dk_181 0 65 (dk_at dksX5_pop_0 7 rfl rfl)
theorem dX5_pop_10 : decode cX5_pop 10 = .ok (.aload_n 0, 1) := dk_42 (dk_at dksX5_pop_0 10 rfl rfl)
theorem dX5_pop_11 : decode cX5_pop 11 = .ok (.getfield 25, 3) := dk_180 0 25 (dk_at dksX5_pop_0 11 rfl rfl)
theorem dX5_pop_14 : decode cX5_pop 14 = .ok (.aload_n 0, 1) := dk_42 (dk_at dksX5_pop_0 14 rfl rfl)
theorem dX5_pop_15 : decode cX5_pop 15 = .ok (.getfield 65, 3) := dk_180 0 65 (dk_at dksX5_pop_0 15 rfl rfl)
theorem dX5_pop_18 : decode cX5_pop 18 = .ok (.laload, 1) := dk_47 (dk_at dksX5_pop_0 18 rfl rfl)
theorem dX5_pop_19 : decode cX5_pop 19 = .ok (.lstore_n 1, 1) := dk_64 (dk_at dksX5_pop_0 19 rfl rfl)
theorem dX5_pop_20 : decode cX5_pop 20 = .ok (.lload_n 1, 1) := dk_31 (dk_at dksX5_pop_0 20 rfl rfl)
theorem dX5_pop_21 : decode cX5_pop 21 = .ok (.bipush 40, 2) := dk_16 40 (dk_at dksX5_pop_0 21 rfl rfl)
theorem dX5_pop_23 : decode cX5_pop 23 = .ok (.lshr, 1) := dk_123 (dk_at dksX5_pop_0 23 rfl rfl)
theorem dX5_pop_24 : decode cX5_pop 24 = .ok (.lconst 0, 1) := dk_9 (dk_at dksX5_pop_1 0 rfl rfl)
theorem dX5_pop_25 : decode cX5_pop 25 = .ok (.lcmp, 1) := dk_148 (dk_at dksX5_pop_1 1 rfl rfl)
theorem dX5_pop_26 : decode cX5_pop 26 = .ok (.ifCond .ne 5, 3) := dk_154 0 5 (dk_at dksX5_pop_1 2 rfl rfl)
theorem dX5_pop_29 : decode cX5_pop 29 = .ok (.iconst 1, 1) := dk_4 (dk_at dksX5_pop_1 5 rfl rfl)
theorem dX5_pop_30 : decode cX5_pop 30 = .ok (.ireturn, 1) := dk_172 (dk_at dksX5_pop_1 6 rfl rfl)
theorem dX5_pop_31 : decode cX5_pop 31 = .ok (.aload_n 0, 1) := dk_42 (dk_at dksX5_pop_1 7 rfl rfl)
theorem dX5_pop_32 : decode cX5_pop 32 = .ok (.getfield 18, 3) := dk_180 0 18 (dk_at dksX5_pop_1 8 rfl rfl)
theorem dX5_pop_35 : decode cX5_pop 35 = .ok (.lload_n 1, 1) := dk_31 (dk_at dksX5_pop_1 11 rfl rfl)
theorem dX5_pop_36 : decode cX5_pop 36 = .ok (.bipush 16, 2) := dk_16 16 (dk_at dksX5_pop_1 12 rfl rfl)
theorem dX5_pop_38 : decode cX5_pop 38 = .ok (.lshr, 1) := dk_123 (dk_at dksX5_pop_1 14 rfl rfl)
theorem dX5_pop_39 : decode cX5_pop 39 = .ok (.ldc2_w 83, 3) := dk_20 0 83 (dk_at dksX5_pop_1 15 rfl rfl)
theorem dX5_pop_42 : decode cX5_pop 42 = .ok (.land, 1) := dk_127 (dk_at dksX5_pop_1 18 rfl rfl)
theorem dX5_pop_43 : decode cX5_pop 43 = .ok (.l2i, 1) := dk_136 (dk_at dksX5_pop_1 19 rfl rfl)
theorem dX5_pop_44 : decode cX5_pop 44 = .ok (.lload_n 1, 1) := dk_31 (dk_at dksX5_pop_1 20 rfl rfl)
theorem dX5_pop_45 : decode cX5_pop 45 = .ok (.ldc2_w 83, 3) := dk_20 0 83 (dk_at dksX5_pop_1 21 rfl rfl)
theorem dX5_pop_48 : decode cX5_pop 48 = .ok (.land, 1) := dk_127 (dk_at dksX5_pop_2 0 rfl rfl)
theorem dX5_pop_49 : decode cX5_pop 49 = .ok (.l2i, 1) := dk_136 (dk_at dksX5_pop_2 1 rfl rfl)
theorem dX5_pop_50 : decode cX5_pop 50 = .ok (.iconst 1, 1) := dk_4 (dk_at dksX5_pop_2 2 rfl rfl)
theorem dX5_pop_51 : decode cX5_pop 51 = .ok (.isub, 1) := dk_100 (dk_at dksX5_pop_2 3 rfl rfl)
theorem dX5_pop_52 : decode cX5_pop 52 = .ok (.iastore, 1) := dk_79 (dk_at dksX5_pop_2 4 rfl rfl)
theorem dX5_pop_53 : decode cX5_pop 53 = .ok (.iconst 0, 1) := dk_3 (dk_at dksX5_pop_2 5 rfl rfl)
theorem dX5_pop_54 : decode cX5_pop 54 = .ok (.ireturn, 1) := dk_172 (dk_at dksX5_pop_2 6 rfl rfl)
abbrev cX5_isNew : ByteArray := prog_16_method_5_code
def yX5_isNew : MethodName := ⟨RX5, "isNew", "(II)Z"⟩
def dkwX5_isNew_4 : List UInt8 := [54, 8, 42, 180, 0, 14, 21, 5, 92, 47, 22, 6, 129, 80, 21, 8, 172]
abbrev dktX5_isNew_4 : List UInt8 := dkwX5_isNew_4 ++ []
def dkwX5_isNew_3 : List UInt8 := [121, 55, 6, 42, 180, 0, 14, 21, 5, 47, 22, 6, 127, 9, 148, 154, 0, 7, 4, 167, 0, 4, 3]
abbrev dktX5_isNew_3 : List UInt8 := dkwX5_isNew_3 ++ dktX5_isNew_4
def dkwX5_isNew_2 : List UInt8 := [167, 255, 222, 27, 16, 12, 104, 29, 96, 16, 16, 104, 28, 16, 6, 122, 96, 54, 5, 10, 28, 16, 63, 126]
abbrev dktX5_isNew_2 : List UInt8 := dkwX5_isNew_2 ++ dktX5_isNew_3
def dkwX5_isNew_1 : List UInt8 := [21, 4, 96, 46, 28, 160, 0, 21, 132, 3, 1, 42, 180, 0, 39, 180, 0, 62, 21, 4, 46, 54, 4]
abbrev dktX5_isNew_1 : List UInt8 := dkwX5_isNew_1 ++ dktX5_isNew_2
def dkwX5_isNew_0 : List UInt8 := [3, 62, 42, 180, 0, 39, 180, 0, 59, 27, 46, 54, 4, 21, 4, 155, 0, 35, 42, 180, 0, 18, 16, 20]
abbrev dktX5_isNew_0 : List UInt8 := dkwX5_isNew_0 ++ dktX5_isNew_1
theorem dksX5_isNew_0 : cX5_isNew.data.toList.drop 0 = dktX5_isNew_0 := by decide +kernel
theorem dksX5_isNew_1 : cX5_isNew.data.toList.drop 24 = dktX5_isNew_1 := dk_seg dksX5_isNew_0 24 rfl rfl
theorem dksX5_isNew_2 : cX5_isNew.data.toList.drop 47 = dktX5_isNew_2 := dk_seg dksX5_isNew_1 23 rfl rfl
theorem dksX5_isNew_3 : cX5_isNew.data.toList.drop 71 = dktX5_isNew_3 := dk_seg dksX5_isNew_2 24 rfl rfl
theorem dksX5_isNew_4 : cX5_isNew.data.toList.drop 94 = dktX5_isNew_4 := dk_seg dksX5_isNew_3 23 rfl rfl
theorem dX5_isNew_0 : decode cX5_isNew 0 = .ok (.iconst 0, 1) := dk_3 (dk_at dksX5_isNew_0 0 rfl rfl)
theorem dX5_isNew_1 : decode cX5_isNew 1 = .ok (.istore_n 3, 1) := dk_62 (dk_at dksX5_isNew_0 1 rfl rfl)
theorem dX5_isNew_2 : decode cX5_isNew 2 = .ok (.aload_n 0, 1) := dk_42 (dk_at dksX5_isNew_0 2 rfl rfl)
theorem dX5_isNew_3 : decode cX5_isNew 3 = .ok (.getfield 39, 3) := dk_180 0 39 (dk_at dksX5_isNew_0 3 rfl rfl)
theorem dX5_isNew_6 : decode cX5_isNew 6 = .ok (.getfield 59, 3) := dk_180 0 59 (dk_at dksX5_isNew_0 6 rfl rfl)
theorem dX5_isNew_9 : decode cX5_isNew 9 = .ok (.iload_n 1, 1) := dk_27 (dk_at dksX5_isNew_0 9 rfl rfl)
theorem dX5_isNew_10 : decode cX5_isNew 10 = .ok (.iaload, 1) := dk_46 (dk_at dksX5_isNew_0 10 rfl rfl)
theorem dX5_isNew_11 : decode cX5_isNew 11 = .ok (.istore 4, 2) := dk_54 4 (dk_at dksX5_isNew_0 11 rfl rfl)
theorem dX5_isNew_13 : decode cX5_isNew 13 = .ok (.iload 4, 2) := dk_21 4 (dk_at dksX5_isNew_0 13 rfl rfl)
theorem dX5_isNew_15 : decode cX5_isNew 15 = .ok (.ifCond .lt 35, 3) := dk_155 0 35 (dk_at dksX5_isNew_0 15 rfl rfl)
theorem dX5_isNew_18 : decode cX5_isNew 18 = .ok (.aload_n 0, 1) := dk_42 (dk_at dksX5_isNew_0 18 rfl rfl)
theorem dX5_isNew_19 : decode cX5_isNew 19 = .ok (.getfield 18, 3) := dk_180 0 18 (dk_at dksX5_isNew_0 19 rfl rfl)
theorem dX5_isNew_22 : decode cX5_isNew 22 = .ok (.bipush 20, 2) := dk_16 20 (dk_at dksX5_isNew_0 22 rfl rfl)
theorem dX5_isNew_24 : decode cX5_isNew 24 = .ok (.iload 4, 2) := dk_21 4 (dk_at dksX5_isNew_1 0 rfl rfl)
theorem dX5_isNew_26 : decode cX5_isNew 26 = .ok (.iadd, 1) := dk_96 (dk_at dksX5_isNew_1 2 rfl rfl)
theorem dX5_isNew_27 : decode cX5_isNew 27 = .ok (.iaload, 1) := dk_46 (dk_at dksX5_isNew_1 3 rfl rfl)
theorem dX5_isNew_28 : decode cX5_isNew 28 = .ok (.iload_n 2, 1) := dk_28 (dk_at dksX5_isNew_1 4 rfl rfl)
theorem dX5_isNew_29 : decode cX5_isNew 29 = .ok (.if_icmp .ne 21, 3) := dk_160 0 21 (dk_at dksX5_isNew_1 5 rfl rfl)
theorem dX5_isNew_32 : decode cX5_isNew 32 = .ok (.iinc 3 1, 3) := dk_132 3 1 (dk_at dksX5_isNew_1 8 rfl rfl)
theorem dX5_isNew_35 : decode cX5_isNew 35 = .ok (.aload_n 0, 1) := dk_42 (dk_at dksX5_isNew_1 11 rfl rfl)
theorem dX5_isNew_36 : decode cX5_isNew 36 = .ok (.getfield 39, 3) := dk_180 0 39 (dk_at dksX5_isNew_1 12 rfl rfl)
theorem dX5_isNew_39 : decode cX5_isNew 39 = .ok (.getfield 62, 3) := dk_180 0 62 (dk_at dksX5_isNew_1 15 rfl rfl)
theorem dX5_isNew_42 : decode cX5_isNew 42 = .ok (.iload 4, 2) := dk_21 4 (dk_at dksX5_isNew_1 18 rfl rfl)
theorem dX5_isNew_44 : decode cX5_isNew 44 = .ok (.iaload, 1) := dk_46 (dk_at dksX5_isNew_1 20 rfl rfl)
theorem dX5_isNew_45 : decode cX5_isNew 45 = .ok (.istore 4, 2) := dk_54 4 (dk_at dksX5_isNew_1 21 rfl rfl)
theorem dX5_isNew_47 : decode cX5_isNew 47 = .ok (.goto (-34), 3) := dk_167 255 222 (dk_at dksX5_isNew_2 0 rfl rfl)
theorem dX5_isNew_50 : decode cX5_isNew 50 = .ok (.iload_n 1, 1) := dk_27 (dk_at dksX5_isNew_2 3 rfl rfl)
theorem dX5_isNew_51 : decode cX5_isNew 51 = .ok (.bipush 12, 2) := dk_16 12 (dk_at dksX5_isNew_2 4 rfl rfl)
theorem dX5_isNew_53 : decode cX5_isNew 53 = .ok (.imul, 1) := dk_104 (dk_at dksX5_isNew_2 6 rfl rfl)
theorem dX5_isNew_54 : decode cX5_isNew 54 = .ok (.iload_n 3, 1) := dk_29 (dk_at dksX5_isNew_2 7 rfl rfl)
theorem dX5_isNew_55 : decode cX5_isNew 55 = .ok (.iadd, 1) := dk_96 (dk_at dksX5_isNew_2 8 rfl rfl)
theorem dX5_isNew_56 : decode cX5_isNew 56 = .ok (.bipush 16, 2) := dk_16 16 (dk_at dksX5_isNew_2 9 rfl rfl)
theorem dX5_isNew_58 : decode cX5_isNew 58 = .ok (.imul, 1) := dk_104 (dk_at dksX5_isNew_2 11 rfl rfl)
theorem dX5_isNew_59 : decode cX5_isNew 59 = .ok (.iload_n 2, 1) := dk_28 (dk_at dksX5_isNew_2 12 rfl rfl)
theorem dX5_isNew_60 : decode cX5_isNew 60 = .ok (.bipush 6, 2) := dk_16 6 (dk_at dksX5_isNew_2 13 rfl rfl)
theorem dX5_isNew_62 : decode cX5_isNew 62 = .ok (.ishr, 1) := dk_122 (dk_at dksX5_isNew_2 15 rfl rfl)
theorem dX5_isNew_63 : decode cX5_isNew 63 = .ok (.iadd, 1) := dk_96 (dk_at dksX5_isNew_2 16 rfl rfl)
theorem dX5_isNew_64 : decode cX5_isNew 64 = .ok (.istore 5, 2) := dk_54 5 (dk_at dksX5_isNew_2 17 rfl rfl)
theorem dX5_isNew_66 : decode cX5_isNew 66 = .ok (.lconst 1, 1) := dk_10 (dk_at dksX5_isNew_2 19 rfl rfl)
theorem dX5_isNew_67 : decode cX5_isNew 67 = .ok (.iload_n 2, 1) := dk_28 (dk_at dksX5_isNew_2 20 rfl rfl)
theorem dX5_isNew_68 : decode cX5_isNew 68 = .ok (.bipush 63, 2) := dk_16 63 (dk_at dksX5_isNew_2 21 rfl rfl)
theorem dX5_isNew_70 : decode cX5_isNew 70 = .ok (.iand, 1) := dk_126 (dk_at dksX5_isNew_2 23 rfl rfl)
theorem dX5_isNew_71 : decode cX5_isNew 71 = .ok (.lshl, 1) := dk_121 (dk_at dksX5_isNew_3 0 rfl rfl)
theorem dX5_isNew_72 : decode cX5_isNew 72 = .ok (.lstore 6, 2) := dk_55 6 (dk_at dksX5_isNew_3 1 rfl rfl)
theorem dX5_isNew_74 : decode cX5_isNew 74 = .ok (.aload_n 0, 1) := dk_42 (dk_at dksX5_isNew_3 3 rfl rfl)
theorem dX5_isNew_75 : decode cX5_isNew 75 = .ok (.getfield 14, 3) := dk_180 0 14 (dk_at dksX5_isNew_3 4 rfl rfl)
theorem dX5_isNew_78 : decode cX5_isNew 78 = .ok (.iload 5, 2) := dk_21 5 (dk_at dksX5_isNew_3 7 rfl rfl)
theorem dX5_isNew_80 : decode cX5_isNew 80 = .ok (.laload, 1) := dk_47 (dk_at dksX5_isNew_3 9 rfl rfl)
theorem dX5_isNew_81 : decode cX5_isNew 81 = .ok (.lload 6, 2) := dk_22 6 (dk_at dksX5_isNew_3 10 rfl rfl)
theorem dX5_isNew_83 : decode cX5_isNew 83 = .ok (.land, 1) := dk_127 (dk_at dksX5_isNew_3 12 rfl rfl)
theorem dX5_isNew_84 : decode cX5_isNew 84 = .ok (.lconst 0, 1) := dk_9 (dk_at dksX5_isNew_3 13 rfl rfl)
theorem dX5_isNew_85 : decode cX5_isNew 85 = .ok (.lcmp, 1) := dk_148 (dk_at dksX5_isNew_3 14 rfl rfl)
theorem dX5_isNew_86 : decode cX5_isNew 86 = .ok (.ifCond .ne 7, 3) := dk_154 0 7 (dk_at dksX5_isNew_3 15 rfl rfl)
theorem dX5_isNew_89 : decode cX5_isNew 89 = .ok (.iconst 1, 1) := dk_4 (dk_at dksX5_isNew_3 18 rfl rfl)
theorem dX5_isNew_90 : decode cX5_isNew 90 = .ok (.goto 4, 3) := dk_167 0 4 (dk_at dksX5_isNew_3 19 rfl rfl)
theorem dX5_isNew_93 : decode cX5_isNew 93 = .ok (.iconst 0, 1) := dk_3 (dk_at dksX5_isNew_3 22 rfl rfl)
theorem dX5_isNew_94 : decode cX5_isNew 94 = .ok (.istore 8, 2) := dk_54 8 (dk_at dksX5_isNew_4 0 rfl rfl)
theorem dX5_isNew_96 : decode cX5_isNew 96 = .ok (.aload_n 0, 1) := dk_42 (dk_at dksX5_isNew_4 2 rfl rfl)
theorem dX5_isNew_97 : decode cX5_isNew 97 = .ok (.getfield 14, 3) := dk_180 0 14 (dk_at dksX5_isNew_4 3 rfl rfl)
theorem dX5_isNew_100 : decode cX5_isNew 100 = .ok (.iload 5, 2) := dk_21 5 (dk_at dksX5_isNew_4 6 rfl rfl)
theorem dX5_isNew_102 : decode cX5_isNew 102 = .ok (.dup2, 1) := dk_92 (dk_at dksX5_isNew_4 8 rfl rfl)
theorem dX5_isNew_103 : decode cX5_isNew 103 = .ok (.laload, 1) := dk_47 (dk_at dksX5_isNew_4 9 rfl rfl)
theorem dX5_isNew_104 : decode cX5_isNew 104 = .ok (.lload 6, 2) := dk_22 6 (dk_at dksX5_isNew_4 10 rfl rfl)
theorem dX5_isNew_106 : decode cX5_isNew 106 = .ok (.lor, 1) := dk_129 (dk_at dksX5_isNew_4 12 rfl rfl)
theorem dX5_isNew_107 : decode cX5_isNew 107 = .ok (.lastore, 1) := dk_80 (dk_at dksX5_isNew_4 13 rfl rfl)
theorem dX5_isNew_108 : decode cX5_isNew 108 = .ok (.iload 8, 2) := dk_21 8 (dk_at dksX5_isNew_4 14 rfl rfl)
theorem dX5_isNew_110 : decode cX5_isNew 110 = .ok (.ireturn, 1) := dk_172 (dk_at dksX5_isNew_4 16 rfl rfl)
abbrev cX5_pushWay : ByteArray := prog_16_method_7_code
def yX5_pushWay : MethodName := ⟨RX5, "pushWay", "(II)V"⟩
def dkwX5_pushWay_0 : List UInt8 := [42, 27, 133, 16, 16, 121, 28, 133, 129, 182, 0, 77, 177]
abbrev dktX5_pushWay_0 : List UInt8 := dkwX5_pushWay_0 ++ []
theorem dksX5_pushWay_0 : cX5_pushWay.data.toList.drop 0 = dktX5_pushWay_0 := by decide +kernel
theorem dX5_pushWay_0 : decode cX5_pushWay 0 = .ok (.aload_n 0, 1) := dk_42 (dk_at dksX5_pushWay_0 0 rfl rfl)
theorem dX5_pushWay_1 : decode cX5_pushWay 1 = .ok (.iload_n 1, 1) := dk_27 (dk_at dksX5_pushWay_0 1 rfl rfl)
theorem dX5_pushWay_2 : decode cX5_pushWay 2 = .ok (.i2l, 1) := dk_133 (dk_at dksX5_pushWay_0 2 rfl rfl)
theorem dX5_pushWay_3 : decode cX5_pushWay 3 = .ok (.bipush 16, 2) := dk_16 16 (dk_at dksX5_pushWay_0 3 rfl rfl)
theorem dX5_pushWay_5 : decode cX5_pushWay 5 = .ok (.lshl, 1) := dk_121 (dk_at dksX5_pushWay_0 5 rfl rfl)
theorem dX5_pushWay_6 : decode cX5_pushWay 6 = .ok (.iload_n 2, 1) := dk_28 (dk_at dksX5_pushWay_0 6 rfl rfl)
theorem dX5_pushWay_7 : decode cX5_pushWay 7 = .ok (.i2l, 1) := dk_133 (dk_at dksX5_pushWay_0 7 rfl rfl)
theorem dX5_pushWay_8 : decode cX5_pushWay 8 = .ok (.lor, 1) := dk_129 (dk_at dksX5_pushWay_0 8 rfl rfl)
theorem dX5_pushWay_9 : decode cX5_pushWay 9 = .ok (.invokevirtual 77, 3) := dk_182 0 77 (dk_at dksX5_pushWay_0 9 rfl rfl)
theorem dX5_pushWay_12 : decode cX5_pushWay 12 = .ok (.return_, 1) := dk_177 (dk_at dksX5_pushWay_0 12 rfl rfl)
abbrev cX5_push : ByteArray := prog_16_method_6_code
def yX5_push : MethodName := ⟨RX5, "push", "(J)V"⟩
def dkwX5_push_3 : List UInt8 := [180, 0, 25, 42, 180, 0, 65, 31, 80, 42, 89, 180, 0, 65, 4, 96, 181, 0, 65, 177]
abbrev dktX5_push_3 : List UInt8 := dkwX5_push_3 ++ []
def dkwX5_push_2 : List UInt8 := [188, 11, 78, 42, 180, 0, 25, 3, 45, 3, 42, 180, 0, 65, 184, 0, 71, 42, 45, 181, 0, 25, 42]
abbrev dktX5_push_2 : List UInt8 := dkwX5_push_2 ++ dktX5_push_3
def dkwX5_push_1 : List UInt8 := [180, 0, 65, 104, 167, 0, 19, 42, 180, 0, 65, 18, 69, 162, 0, 8, 18, 69, 167, 0, 5, 18, 70]
abbrev dktX5_push_1 : List UInt8 := dkwX5_push_1 ++ dktX5_push_2
def dkwX5_push_0 : List UInt8 := [42, 180, 0, 65, 42, 180, 0, 25, 190, 160, 0, 59, 42, 180, 0, 65, 18, 68, 162, 0, 12, 5, 42]
abbrev dktX5_push_0 : List UInt8 := dkwX5_push_0 ++ dktX5_push_1
theorem dksX5_push_0 : cX5_push.data.toList.drop 0 = dktX5_push_0 := by decide +kernel
theorem dksX5_push_1 : cX5_push.data.toList.drop 23 = dktX5_push_1 := dk_seg dksX5_push_0 23 rfl rfl
theorem dksX5_push_2 : cX5_push.data.toList.drop 46 = dktX5_push_2 := dk_seg dksX5_push_1 23 rfl rfl
theorem dksX5_push_3 : cX5_push.data.toList.drop 69 = dktX5_push_3 := dk_seg dksX5_push_2 23 rfl rfl
theorem dX5_push_0 : decode cX5_push 0 = .ok (.aload_n 0, 1) := dk_42 (dk_at dksX5_push_0 0 rfl rfl)
theorem dX5_push_1 : decode cX5_push 1 = .ok (.getfield 65, 3) := dk_180 0 65 (dk_at dksX5_push_0 1 rfl rfl)
theorem dX5_push_4 : decode cX5_push 4 = .ok (.aload_n 0, 1) := dk_42 (dk_at dksX5_push_0 4 rfl rfl)
theorem dX5_push_5 : decode cX5_push 5 = .ok (.getfield 25, 3) := dk_180 0 25 (dk_at dksX5_push_0 5 rfl rfl)
theorem dX5_push_8 : decode cX5_push 8 = .ok (.arraylength, 1) := dk_190 (dk_at dksX5_push_0 8 rfl rfl)
theorem dX5_push_9 : decode cX5_push 9 = .ok (.if_icmp .ne 59, 3) := dk_160 0 59 (dk_at dksX5_push_0 9 rfl rfl)
theorem dX5_push_12 : decode cX5_push 12 = .ok (.aload_n 0, 1) := dk_42 (dk_at dksX5_push_0 12 rfl rfl)
theorem dX5_push_13 : decode cX5_push 13 = .ok (.getfield 65, 3) := dk_180 0 65 (dk_at dksX5_push_0 13 rfl rfl)
theorem dX5_push_16 : decode cX5_push 16 = .ok (.ldc 68, 2) := dk_18 68 (dk_at dksX5_push_0 16 rfl rfl)
theorem dX5_push_18 : decode cX5_push 18 = .ok (.if_icmp .ge 12, 3) := dk_162 0 12 (dk_at dksX5_push_0 18 rfl rfl)
theorem dX5_push_21 : decode cX5_push 21 = .ok (.iconst 2, 1) := dk_5 (dk_at dksX5_push_0 21 rfl rfl)
theorem dX5_push_22 : decode cX5_push 22 = .ok (.aload_n 0, 1) := dk_42 (dk_at dksX5_push_0 22 rfl rfl)
theorem dX5_push_23 : decode cX5_push 23 = .ok (.getfield 65, 3) := dk_180 0 65 (dk_at dksX5_push_1 0 rfl rfl)
theorem dX5_push_26 : decode cX5_push 26 = .ok (.imul, 1) := dk_104 (dk_at dksX5_push_1 3 rfl rfl)
theorem dX5_push_27 : decode cX5_push 27 = .ok (.goto 19, 3) := dk_167 0 19 (dk_at dksX5_push_1 4 rfl rfl)
theorem dX5_push_30 : decode cX5_push 30 = .ok (.aload_n 0, 1) := dk_42 (dk_at dksX5_push_1 7 rfl rfl)
theorem dX5_push_31 : decode cX5_push 31 = .ok (.getfield 65, 3) := dk_180 0 65 (dk_at dksX5_push_1 8 rfl rfl)
theorem dX5_push_34 : decode cX5_push 34 = .ok (.ldc 69, 2) := dk_18 69 (dk_at dksX5_push_1 11 rfl rfl)
theorem dX5_push_36 : decode cX5_push 36 = .ok (.if_icmp .ge 8, 3) := dk_162 0 8 (dk_at dksX5_push_1 13 rfl rfl)
theorem dX5_push_39 : decode cX5_push 39 = .ok (.ldc 69, 2) := dk_18 69 (dk_at dksX5_push_1 16 rfl rfl)
theorem dX5_push_41 : decode cX5_push 41 = .ok (.goto 5, 3) := dk_167 0 5 (dk_at dksX5_push_1 18 rfl rfl)
theorem dX5_push_44 : decode cX5_push 44 = .ok (.ldc 70, 2) := dk_18 70 (dk_at dksX5_push_1 21 rfl rfl)
theorem dX5_push_46 : decode cX5_push 46 = .ok (.newarray .long, 2) := dk_188_11 (dk_at dksX5_push_2 0 rfl rfl)
theorem dX5_push_48 : decode cX5_push 48 = .ok (.astore_n 3, 1) := dk_78 (dk_at dksX5_push_2 2 rfl rfl)
theorem dX5_push_49 : decode cX5_push 49 = .ok (.aload_n 0, 1) := dk_42 (dk_at dksX5_push_2 3 rfl rfl)
theorem dX5_push_50 : decode cX5_push 50 = .ok (.getfield 25, 3) := dk_180 0 25 (dk_at dksX5_push_2 4 rfl rfl)
theorem dX5_push_53 : decode cX5_push 53 = .ok (.iconst 0, 1) := dk_3 (dk_at dksX5_push_2 7 rfl rfl)
theorem dX5_push_54 : decode cX5_push 54 = .ok (.aload_n 3, 1) := dk_45 (dk_at dksX5_push_2 8 rfl rfl)
theorem dX5_push_55 : decode cX5_push 55 = .ok (.iconst 0, 1) := dk_3 (dk_at dksX5_push_2 9 rfl rfl)
theorem dX5_push_56 : decode cX5_push 56 = .ok (.aload_n 0, 1) := dk_42 (dk_at dksX5_push_2 10 rfl rfl)
theorem dX5_push_57 : decode cX5_push 57 = .ok (.getfield 65, 3) := dk_180 0 65 (dk_at dksX5_push_2 11 rfl rfl)
theorem dX5_push_60 : decode cX5_push 60 = .ok (.invokestatic 71, 3) := dk_184 0 71 (dk_at dksX5_push_2 14 rfl rfl)
theorem dX5_push_63 : decode cX5_push 63 = .ok (.aload_n 0, 1) := dk_42 (dk_at dksX5_push_2 17 rfl rfl)
theorem dX5_push_64 : decode cX5_push 64 = .ok (.aload_n 3, 1) := dk_45 (dk_at dksX5_push_2 18 rfl rfl)
theorem dX5_push_65 : decode cX5_push 65 = .ok (.putfield 25, 3) := dk_181 0 25 (dk_at dksX5_push_2 19 rfl rfl)
theorem dX5_push_68 : decode cX5_push 68 = .ok (.aload_n 0, 1) := dk_42 (dk_at dksX5_push_2 22 rfl rfl)
theorem dX5_push_69 : decode cX5_push 69 = .ok (.getfield 25, 3) := dk_180 0 25 (dk_at dksX5_push_3 0 rfl rfl)
theorem dX5_push_72 : decode cX5_push 72 = .ok (.aload_n 0, 1) := dk_42 (dk_at dksX5_push_3 3 rfl rfl)
theorem dX5_push_73 : decode cX5_push 73 = .ok (.getfield 65, 3) := dk_180 0 65 (dk_at dksX5_push_3 4 rfl rfl)
theorem dX5_push_76 : decode cX5_push 76 = .ok (.lload_n 1, 1) := dk_31 (dk_at dksX5_push_3 7 rfl rfl)
theorem dX5_push_77 : decode cX5_push 77 = .ok (.lastore, 1) := dk_80 (dk_at dksX5_push_3 8 rfl rfl)
theorem dX5_push_78 : decode cX5_push 78 = .ok (.aload_n 0, 1) := dk_42 (dk_at dksX5_push_3 9 rfl rfl)
theorem dX5_push_79 : decode cX5_push 79 = .ok (.dup, 1) := dk_89 (dk_at dksX5_push_3 10 rfl rfl)
theorem dX5_push_80 : decode cX5_push 80 = .ok (.getfield 65, 3) := dk_180 0 65 (dk_at dksX5_push_3 11 rfl rfl)
theorem dX5_push_83 : decode cX5_push 83 = .ok (.iconst 1, 1) := dk_4 (dk_at dksX5_push_3 14 rfl rfl)
theorem dX5_push_84 : decode cX5_push 84 = .ok (.iadd, 1) := dk_96 (dk_at dksX5_push_3 15 rfl rfl)
theorem dX5_push_85 : decode cX5_push 85 = .ok (.putfield 65, 3) := dk_181 0 65 (dk_at dksX5_push_3 16 rfl rfl)
theorem dX5_push_88 : decode cX5_push 88 = .ok (.return_, 1) := dk_177 (dk_at dksX5_push_3 19 rfl rfl)
abbrev cX5_pushSlot : ByteArray := prog_16_method_8_code
def yX5_pushSlot : MethodName := ⟨RX5, "pushSlot", "(I)V"⟩
def dkwX5_pushSlot_0 : List UInt8 := [42, 20, 0, 81, 27, 133, 16, 16, 121, 129, 42, 180, 0, 18, 27, 46, 4, 96, 133, 129, 182, 0, 77, 177]
abbrev dktX5_pushSlot_0 : List UInt8 := dkwX5_pushSlot_0 ++ []
theorem dksX5_pushSlot_0 : cX5_pushSlot.data.toList.drop 0 = dktX5_pushSlot_0 := by decide +kernel
theorem dX5_pushSlot_0 : decode cX5_pushSlot 0 = .ok (.aload_n 0, 1) := dk_42 (dk_at dksX5_pushSlot_0 0 rfl rfl)
theorem dX5_pushSlot_1 : decode cX5_pushSlot 1 = .ok (.ldc2_w 81, 3) := dk_20 0 81 (dk_at dksX5_pushSlot_0 1 rfl rfl)
theorem dX5_pushSlot_4 : decode cX5_pushSlot 4 = .ok (.iload_n 1, 1) := dk_27 (dk_at dksX5_pushSlot_0 4 rfl rfl)
theorem dX5_pushSlot_5 : decode cX5_pushSlot 5 = .ok (.i2l, 1) := dk_133 (dk_at dksX5_pushSlot_0 5 rfl rfl)
theorem dX5_pushSlot_6 : decode cX5_pushSlot 6 = .ok (.bipush 16, 2) := dk_16 16 (dk_at dksX5_pushSlot_0 6 rfl rfl)
theorem dX5_pushSlot_8 : decode cX5_pushSlot 8 = .ok (.lshl, 1) := dk_121 (dk_at dksX5_pushSlot_0 8 rfl rfl)
theorem dX5_pushSlot_9 : decode cX5_pushSlot 9 = .ok (.lor, 1) := dk_129 (dk_at dksX5_pushSlot_0 9 rfl rfl)
theorem dX5_pushSlot_10 : decode cX5_pushSlot 10 = .ok (.aload_n 0, 1) := dk_42 (dk_at dksX5_pushSlot_0 10 rfl rfl)
theorem dX5_pushSlot_11 : decode cX5_pushSlot 11 = .ok (.getfield 18, 3) := dk_180 0 18 (dk_at dksX5_pushSlot_0 11 rfl rfl)
theorem dX5_pushSlot_14 : decode cX5_pushSlot 14 = .ok (.iload_n 1, 1) := dk_27 (dk_at dksX5_pushSlot_0 14 rfl rfl)
theorem dX5_pushSlot_15 : decode cX5_pushSlot 15 = .ok (.iaload, 1) := dk_46 (dk_at dksX5_pushSlot_0 15 rfl rfl)
theorem dX5_pushSlot_16 : decode cX5_pushSlot 16 = .ok (.iconst 1, 1) := dk_4 (dk_at dksX5_pushSlot_0 16 rfl rfl)
theorem dX5_pushSlot_17 : decode cX5_pushSlot 17 = .ok (.iadd, 1) := dk_96 (dk_at dksX5_pushSlot_0 17 rfl rfl)
theorem dX5_pushSlot_18 : decode cX5_pushSlot 18 = .ok (.i2l, 1) := dk_133 (dk_at dksX5_pushSlot_0 18 rfl rfl)
theorem dX5_pushSlot_19 : decode cX5_pushSlot 19 = .ok (.lor, 1) := dk_129 (dk_at dksX5_pushSlot_0 19 rfl rfl)
theorem dX5_pushSlot_20 : decode cX5_pushSlot 20 = .ok (.invokevirtual 77, 3) := dk_182 0 77 (dk_at dksX5_pushSlot_0 20 rfl rfl)
theorem dX5_pushSlot_23 : decode cX5_pushSlot 23 = .ok (.return_, 1) := dk_177 (dk_at dksX5_pushSlot_0 23 rfl rfl)
abbrev cX5_within : ByteArray := prog_16_method_12_code
def yX5_within : MethodName := ⟨RX5, "within", "(II)I"⟩
def dkwX5_within_3 : List UInt8 := [167, 255, 242, 167, 0, 8, 42, 29, 182, 0, 135, 21, 4, 172]
abbrev dktX5_within_3 : List UInt8 := dkwX5_within_3 ++ []
def dkwX5_within_2 : List UInt8 := [16, 11, 160, 0, 26, 3, 54, 5, 42, 180, 0, 65, 29, 164, 0, 12, 42, 182, 0, 100, 54, 5]
abbrev dktX5_within_2 : List UInt8 := dkwX5_within_2 ++ dktX5_within_3
def dkwX5_within_1 : List UInt8 := [96, 28, 3, 182, 0, 131, 54, 4, 21, 4, 156, 0, 5, 2, 172, 42, 180, 0, 39, 180, 0, 108, 27, 46]
abbrev dktX5_within_1 : List UInt8 := dkwX5_within_1 ++ dktX5_within_2
def dkwX5_within_0 : List UInt8 := [42, 27, 4, 96, 42, 180, 0, 39, 180, 0, 117, 27, 46, 182, 0, 55, 42, 180, 0, 65, 62, 42, 27, 4]
abbrev dktX5_within_0 : List UInt8 := dkwX5_within_0 ++ dktX5_within_1
theorem dksX5_within_0 : cX5_within.data.toList.drop 0 = dktX5_within_0 := by decide +kernel
theorem dksX5_within_1 : cX5_within.data.toList.drop 24 = dktX5_within_1 := dk_seg dksX5_within_0 24 rfl rfl
theorem dksX5_within_2 : cX5_within.data.toList.drop 48 = dktX5_within_2 := dk_seg dksX5_within_1 24 rfl rfl
theorem dksX5_within_3 : cX5_within.data.toList.drop 70 = dktX5_within_3 := dk_seg dksX5_within_2 22 rfl rfl
theorem dX5_within_0 : decode cX5_within 0 = .ok (.aload_n 0, 1) := dk_42 (dk_at dksX5_within_0 0 rfl rfl)
theorem dX5_within_1 : decode cX5_within 1 = .ok (.iload_n 1, 1) := dk_27 (dk_at dksX5_within_0 1 rfl rfl)
theorem dX5_within_2 : decode cX5_within 2 = .ok (.iconst 1, 1) := dk_4 (dk_at dksX5_within_0 2 rfl rfl)
theorem dX5_within_3 : decode cX5_within 3 = .ok (.iadd, 1) := dk_96 (dk_at dksX5_within_0 3 rfl rfl)
theorem dX5_within_4 : decode cX5_within 4 = .ok (.aload_n 0, 1) := dk_42 (dk_at dksX5_within_0 4 rfl rfl)
theorem dX5_within_5 : decode cX5_within 5 = .ok (.getfield 39, 3) := dk_180 0 39 (dk_at dksX5_within_0 5 rfl rfl)
theorem dX5_within_8 : decode cX5_within 8 = .ok (.getfield 117, 3) := dk_180 0 117 (dk_at dksX5_within_0 8 rfl rfl)
theorem dX5_within_11 : decode cX5_within 11 = .ok (.iload_n 1, 1) := dk_27 (dk_at dksX5_within_0 11 rfl rfl)
theorem dX5_within_12 : decode cX5_within 12 = .ok (.iaload, 1) := dk_46 (dk_at dksX5_within_0 12 rfl rfl)
theorem dX5_within_13 : decode cX5_within 13 = .ok (.invokevirtual 55, 3) := dk_182 0 55 (dk_at dksX5_within_0 13 rfl rfl)
theorem dX5_within_16 : decode cX5_within 16 = .ok (.aload_n 0, 1) := dk_42 (dk_at dksX5_within_0 16 rfl rfl)
theorem dX5_within_17 : decode cX5_within 17 = .ok (.getfield 65, 3) := dk_180 0 65 (dk_at dksX5_within_0 17 rfl rfl)
theorem dX5_within_20 : decode cX5_within 20 = .ok (.istore_n 3, 1) := dk_62 (dk_at dksX5_within_0 20 rfl rfl)
theorem dX5_within_21 : decode cX5_within 21 = .ok (.aload_n 0, 1) := dk_42 (dk_at dksX5_within_0 21 rfl rfl)
theorem dX5_within_22 : decode cX5_within 22 = .ok (.iload_n 1, 1) := dk_27 (dk_at dksX5_within_0 22 rfl rfl)
theorem dX5_within_23 : decode cX5_within 23 = .ok (.iconst 1, 1) := dk_4 (dk_at dksX5_within_0 23 rfl rfl)
theorem dX5_within_24 : decode cX5_within 24 = .ok (.iadd, 1) := dk_96 (dk_at dksX5_within_1 0 rfl rfl)
theorem dX5_within_25 : decode cX5_within 25 = .ok (.iload_n 2, 1) := dk_28 (dk_at dksX5_within_1 1 rfl rfl)
theorem dX5_within_26 : decode cX5_within 26 = .ok (.iconst 0, 1) := dk_3 (dk_at dksX5_within_1 2 rfl rfl)
theorem dX5_within_27 : decode cX5_within 27 = .ok (.invokevirtual 131, 3) := dk_182 0 131 (dk_at dksX5_within_1 3 rfl rfl)
theorem dX5_within_30 : decode cX5_within 30 = .ok (.istore 4, 2) := dk_54 4 (dk_at dksX5_within_1 6 rfl rfl)
theorem dX5_within_32 : decode cX5_within 32 = .ok (.iload 4, 2) := dk_21 4 (dk_at dksX5_within_1 8 rfl rfl)
theorem dX5_within_34 : decode cX5_within 34 = .ok (.ifCond .ge 5, 3) := dk_156 0 5 (dk_at dksX5_within_1 10 rfl rfl)
theorem dX5_within_37 : decode cX5_within 37 = .ok (.iconst (-1), 1) := dk_2 (dk_at dksX5_within_1 13 rfl rfl)
theorem dX5_within_38 : decode cX5_within 38 = .ok (.ireturn, 1) := dk_172 (dk_at dksX5_within_1 14 rfl rfl)
theorem dX5_within_39 : decode cX5_within 39 = .ok (.aload_n 0, 1) := dk_42 (dk_at dksX5_within_1 15 rfl rfl)
theorem dX5_within_40 : decode cX5_within 40 = .ok (.getfield 39, 3) := dk_180 0 39 (dk_at dksX5_within_1 16 rfl rfl)
theorem dX5_within_43 : decode cX5_within 43 = .ok (.getfield 108, 3) := dk_180 0 108 (dk_at dksX5_within_1 19 rfl rfl)
theorem dX5_within_46 : decode cX5_within 46 = .ok (.iload_n 1, 1) := dk_27 (dk_at dksX5_within_1 22 rfl rfl)
theorem dX5_within_47 : decode cX5_within 47 = .ok (.iaload, 1) := dk_46 (dk_at dksX5_within_1 23 rfl rfl)
theorem dX5_within_48 : decode cX5_within 48 = .ok (.bipush 11, 2) := dk_16 11 (dk_at dksX5_within_2 0 rfl rfl)
theorem dX5_within_50 : decode cX5_within 50 = .ok (.if_icmp .ne 26, 3) := dk_160 0 26 (dk_at dksX5_within_2 2 rfl rfl)
theorem dX5_within_53 : decode cX5_within 53 = .ok (.iconst 0, 1) := dk_3 (dk_at dksX5_within_2 5 rfl rfl)
theorem dX5_within_54 : decode cX5_within 54 = .ok (.istore 5, 2) := dk_54 5 (dk_at dksX5_within_2 6 rfl rfl)
theorem dX5_within_56 : decode cX5_within 56 = .ok (.aload_n 0, 1) := dk_42 (dk_at dksX5_within_2 8 rfl rfl)
theorem dX5_within_57 : decode cX5_within 57 = .ok (.getfield 65, 3) := dk_180 0 65 (dk_at dksX5_within_2 9 rfl rfl)
theorem dX5_within_60 : decode cX5_within 60 = .ok (.iload_n 3, 1) := dk_29 (dk_at dksX5_within_2 12 rfl rfl)
theorem dX5_within_61 : decode cX5_within 61 = .ok (.if_icmp .le 12, 3) := dk_164 0 12 (dk_at dksX5_within_2 13 rfl rfl)
theorem dX5_within_64 : decode cX5_within 64 = .ok (.aload_n 0, 1) := dk_42 (dk_at dksX5_within_2 16 rfl rfl)
theorem dX5_within_65 : decode cX5_within 65 = .ok (.invokevirtual 100, 3) := dk_182 0 100 (dk_at dksX5_within_2 17 rfl rfl)
theorem dX5_within_68 : decode cX5_within 68 = .ok (.istore 5, 2) := dk_54 5 (dk_at dksX5_within_2 20 rfl rfl)
theorem dX5_within_70 : decode cX5_within 70 = .ok (.goto (-14), 3) := dk_167 255 242 (dk_at dksX5_within_3 0 rfl rfl)
theorem dX5_within_73 : decode cX5_within 73 = .ok (.goto 8, 3) := dk_167 0 8 (dk_at dksX5_within_3 3 rfl rfl)
theorem dX5_within_76 : decode cX5_within 76 = .ok (.aload_n 0, 1) := dk_42 (dk_at dksX5_within_3 6 rfl rfl)
theorem dX5_within_77 : decode cX5_within 77 = .ok (.iload_n 3, 1) := dk_29 (dk_at dksX5_within_3 7 rfl rfl)
theorem dX5_within_78 : decode cX5_within 78 = .ok (.invokevirtual 135, 3) := dk_182 0 135 (dk_at dksX5_within_3 8 rfl rfl)
theorem dX5_within_81 : decode cX5_within 81 = .ok (.iload 4, 2) := dk_21 4 (dk_at dksX5_within_3 11 rfl rfl)
theorem dX5_within_83 : decode cX5_within 83 = .ok (.ireturn, 1) := dk_172 (dk_at dksX5_within_3 13 rfl rfl)
abbrev cX5_shorten : ByteArray := prog_16_method_13_code
def yX5_shorten : MethodName := ⟨RX5, "shorten", "(I)V"⟩
def dkwX5_shorten_5 : List UInt8 := [181, 0, 65, 177]
abbrev dktX5_shorten_5 : List UInt8 := dkwX5_shorten_5 ++ []
def dkwX5_shorten_4 : List UInt8 := [42, 180, 0, 25, 28, 42, 180, 0, 25, 29, 47, 80, 132, 2, 1, 132, 3, 1, 167, 255, 169, 42, 28]
abbrev dktX5_shorten_4 : List UInt8 := dkwX5_shorten_4 ++ dktX5_shorten_5
def dkwX5_shorten_3 : List UInt8 := [162, 0, 39, 42, 180, 0, 28, 21, 4, 51, 153, 0, 6, 167, 0, 26, 42, 180, 0, 28, 21, 4, 4, 84]
abbrev dktX5_shorten_3 : List UInt8 := dkwX5_shorten_3 ++ dktX5_shorten_4
def dkwX5_shorten_2 : List UInt8 := [167, 0, 62, 42, 180, 0, 25, 29, 47, 16, 16, 123, 20, 0, 83, 127, 136, 54, 4, 21, 4, 16, 20]
abbrev dktX5_shorten_2 : List UInt8 := dkwX5_shorten_2 ++ dktX5_shorten_3
def dkwX5_shorten_1 : List UInt8 := [62, 29, 42, 180, 0, 65, 162, 0, 85, 42, 180, 0, 25, 29, 47, 16, 40, 123, 9, 148, 154, 0, 6]
abbrev dktX5_shorten_1 : List UInt8 := dkwX5_shorten_1 ++ dktX5_shorten_2
def dkwX5_shorten_0 : List UInt8 := [3, 61, 28, 16, 20, 162, 0, 16, 42, 180, 0, 28, 28, 3, 84, 132, 2, 1, 167, 255, 240, 27, 61, 27]
abbrev dktX5_shorten_0 : List UInt8 := dkwX5_shorten_0 ++ dktX5_shorten_1
theorem dksX5_shorten_0 : cX5_shorten.data.toList.drop 0 = dktX5_shorten_0 := by decide +kernel
theorem dksX5_shorten_1 : cX5_shorten.data.toList.drop 24 = dktX5_shorten_1 := dk_seg dksX5_shorten_0 24 rfl rfl
theorem dksX5_shorten_2 : cX5_shorten.data.toList.drop 47 = dktX5_shorten_2 := dk_seg dksX5_shorten_1 23 rfl rfl
theorem dksX5_shorten_3 : cX5_shorten.data.toList.drop 70 = dktX5_shorten_3 := dk_seg dksX5_shorten_2 23 rfl rfl
theorem dksX5_shorten_4 : cX5_shorten.data.toList.drop 94 = dktX5_shorten_4 := dk_seg dksX5_shorten_3 24 rfl rfl
theorem dksX5_shorten_5 : cX5_shorten.data.toList.drop 117 = dktX5_shorten_5 := dk_seg dksX5_shorten_4 23 rfl rfl
theorem dX5_shorten_0 : decode cX5_shorten 0 = .ok (.iconst 0, 1) := dk_3 (dk_at dksX5_shorten_0 0 rfl rfl)
theorem dX5_shorten_1 : decode cX5_shorten 1 = .ok (.istore_n 2, 1) := dk_61 (dk_at dksX5_shorten_0 1 rfl rfl)
theorem dX5_shorten_2 : decode cX5_shorten 2 = .ok (.iload_n 2, 1) := dk_28 (dk_at dksX5_shorten_0 2 rfl rfl)
theorem dX5_shorten_3 : decode cX5_shorten 3 = .ok (.bipush 20, 2) := dk_16 20 (dk_at dksX5_shorten_0 3 rfl rfl)
theorem dX5_shorten_5 : decode cX5_shorten 5 = .ok (.if_icmp .ge 16, 3) := dk_162 0 16 (dk_at dksX5_shorten_0 5 rfl rfl)
theorem dX5_shorten_8 : decode cX5_shorten 8 = .ok (.aload_n 0, 1) := dk_42 (dk_at dksX5_shorten_0 8 rfl rfl)
theorem dX5_shorten_9 : decode cX5_shorten 9 = .ok (.getfield 28, 3) := dk_180 0 28 (dk_at dksX5_shorten_0 9 rfl rfl)
theorem dX5_shorten_12 : decode cX5_shorten 12 = .ok (.iload_n 2, 1) := dk_28 (dk_at dksX5_shorten_0 12 rfl rfl)
theorem dX5_shorten_13 : decode cX5_shorten 13 = .ok (.iconst 0, 1) := dk_3 (dk_at dksX5_shorten_0 13 rfl rfl)
theorem dX5_shorten_14 : decode cX5_shorten 14 = .ok (.bastore, 1) := dk_84 (dk_at dksX5_shorten_0 14 rfl rfl)
theorem dX5_shorten_15 : decode cX5_shorten 15 = .ok (.iinc 2 1, 3) := dk_132 2 1 (dk_at dksX5_shorten_0 15 rfl rfl)
theorem dX5_shorten_18 : decode cX5_shorten 18 = .ok (.goto (-16), 3) := dk_167 255 240 (dk_at dksX5_shorten_0 18 rfl rfl)
theorem dX5_shorten_21 : decode cX5_shorten 21 = .ok (.iload_n 1, 1) := dk_27 (dk_at dksX5_shorten_0 21 rfl rfl)
theorem dX5_shorten_22 : decode cX5_shorten 22 = .ok (.istore_n 2, 1) := dk_61 (dk_at dksX5_shorten_0 22 rfl rfl)
theorem dX5_shorten_23 : decode cX5_shorten 23 = .ok (.iload_n 1, 1) := dk_27 (dk_at dksX5_shorten_0 23 rfl rfl)
theorem dX5_shorten_24 : decode cX5_shorten 24 = .ok (.istore_n 3, 1) := dk_62 (dk_at dksX5_shorten_1 0 rfl rfl)
theorem dX5_shorten_25 : decode cX5_shorten 25 = .ok (.iload_n 3, 1) := dk_29 (dk_at dksX5_shorten_1 1 rfl rfl)
theorem dX5_shorten_26 : decode cX5_shorten 26 = .ok (.aload_n 0, 1) := dk_42 (dk_at dksX5_shorten_1 2 rfl rfl)
theorem dX5_shorten_27 : decode cX5_shorten 27 = .ok (.getfield 65, 3) := dk_180 0 65 (dk_at dksX5_shorten_1 3 rfl rfl)
theorem dX5_shorten_30 : decode cX5_shorten 30 = .ok (.if_icmp .ge 85, 3) := dk_162 0 85 (dk_at dksX5_shorten_1 6 rfl rfl)
theorem dX5_shorten_33 : decode cX5_shorten 33 = .ok (.aload_n 0, 1) := dk_42 (dk_at dksX5_shorten_1 9 rfl rfl)
theorem dX5_shorten_34 : decode cX5_shorten 34 = .ok (.getfield 25, 3) := dk_180 0 25 (dk_at dksX5_shorten_1 10 rfl rfl)
theorem dX5_shorten_37 : decode cX5_shorten 37 = .ok (.iload_n 3, 1) := dk_29 (dk_at dksX5_shorten_1 13 rfl rfl)
theorem dX5_shorten_38 : decode cX5_shorten 38 = .ok (.laload, 1) := dk_47 (dk_at dksX5_shorten_1 14 rfl rfl)
theorem dX5_shorten_39 : decode cX5_shorten 39 = .ok (.bipush 40, 2) := dk_16 40 (dk_at dksX5_shorten_1 15 rfl rfl)
theorem dX5_shorten_41 : decode cX5_shorten 41 = .ok (.lshr, 1) := dk_123 (dk_at dksX5_shorten_1 17 rfl rfl)
theorem dX5_shorten_42 : decode cX5_shorten 42 = .ok (.lconst 0, 1) := dk_9 (dk_at dksX5_shorten_1 18 rfl rfl)
theorem dX5_shorten_43 : decode cX5_shorten 43 = .ok (.lcmp, 1) := dk_148 (dk_at dksX5_shorten_1 19 rfl rfl)
theorem dX5_shorten_44 : decode cX5_shorten 44 = .ok (.ifCond .ne 6, 3) := dk_154 0 6 (dk_at dksX5_shorten_1 20 rfl rfl)
theorem dX5_shorten_47 : decode cX5_shorten 47 = .ok (.goto 62, 3) := dk_167 0 62 (dk_at dksX5_shorten_2 0 rfl rfl)
theorem dX5_shorten_50 : decode cX5_shorten 50 = .ok (.aload_n 0, 1) := dk_42 (dk_at dksX5_shorten_2 3 rfl rfl)
theorem dX5_shorten_51 : decode cX5_shorten 51 = .ok (.getfield 25, 3) := dk_180 0 25 (dk_at dksX5_shorten_2 4 rfl rfl)
theorem dX5_shorten_54 : decode cX5_shorten 54 = .ok (.iload_n 3, 1) := dk_29 (dk_at dksX5_shorten_2 7 rfl rfl)
theorem dX5_shorten_55 : decode cX5_shorten 55 = .ok (.laload, 1) := dk_47 (dk_at dksX5_shorten_2 8 rfl rfl)
theorem dX5_shorten_56 : decode cX5_shorten 56 = .ok (.bipush 16, 2) := dk_16 16 (dk_at dksX5_shorten_2 9 rfl rfl)
theorem dX5_shorten_58 : decode cX5_shorten 58 = .ok (.lshr, 1) := dk_123 (dk_at dksX5_shorten_2 11 rfl rfl)
theorem dX5_shorten_59 : decode cX5_shorten 59 = .ok (.ldc2_w 83, 3) := dk_20 0 83 (dk_at dksX5_shorten_2 12 rfl rfl)
theorem dX5_shorten_62 : decode cX5_shorten 62 = .ok (.land, 1) := dk_127 (dk_at dksX5_shorten_2 15 rfl rfl)
theorem dX5_shorten_63 : decode cX5_shorten 63 = .ok (.l2i, 1) := dk_136 (dk_at dksX5_shorten_2 16 rfl rfl)
theorem dX5_shorten_64 : decode cX5_shorten 64 = .ok (.istore 4, 2) := dk_54 4 (dk_at dksX5_shorten_2 17 rfl rfl)
theorem dX5_shorten_66 : decode cX5_shorten 66 = .ok (.iload 4, 2) := dk_21 4 (dk_at dksX5_shorten_2 19 rfl rfl)
theorem dX5_shorten_68 : decode cX5_shorten 68 = .ok (.bipush 20, 2) := dk_16 20 (dk_at dksX5_shorten_2 21 rfl rfl)
theorem dX5_shorten_70 : decode cX5_shorten 70 = .ok (.if_icmp .ge 39, 3) := dk_162 0 39 (dk_at dksX5_shorten_3 0 rfl rfl)
theorem dX5_shorten_73 : decode cX5_shorten 73 = .ok (.aload_n 0, 1) := dk_42 (dk_at dksX5_shorten_3 3 rfl rfl)
theorem dX5_shorten_74 : decode cX5_shorten 74 = .ok (.getfield 28, 3) := dk_180 0 28 (dk_at dksX5_shorten_3 4 rfl rfl)
theorem dX5_shorten_77 : decode cX5_shorten 77 = .ok (.iload 4, 2) := dk_21 4 (dk_at dksX5_shorten_3 7 rfl rfl)
theorem dX5_shorten_79 : decode cX5_shorten 79 = .ok (.baload, 1) := dk_51 (dk_at dksX5_shorten_3 9 rfl rfl)
theorem dX5_shorten_80 : decode cX5_shorten 80 = .ok (.ifCond .eq 6, 3) := dk_153 0 6 (dk_at dksX5_shorten_3 10 rfl rfl)
theorem dX5_shorten_83 : decode cX5_shorten 83 = .ok (.goto 26, 3) := dk_167 0 26 (dk_at dksX5_shorten_3 13 rfl rfl)
theorem dX5_shorten_86 : decode cX5_shorten 86 = .ok (.aload_n 0, 1) := dk_42 (dk_at dksX5_shorten_3 16 rfl rfl)
theorem dX5_shorten_87 : decode cX5_shorten 87 = .ok (.getfield 28, 3) := dk_180 0 28 (dk_at dksX5_shorten_3 17 rfl rfl)
theorem dX5_shorten_90 : decode cX5_shorten 90 = .ok (.iload 4, 2) := dk_21 4 (dk_at dksX5_shorten_3 20 rfl rfl)
theorem dX5_shorten_92 : decode cX5_shorten 92 = .ok (.iconst 1, 1) := dk_4 (dk_at dksX5_shorten_3 22 rfl rfl)
theorem dX5_shorten_93 : decode cX5_shorten 93 = .ok (.bastore, 1) := dk_84 (dk_at dksX5_shorten_3 23 rfl rfl)
theorem dX5_shorten_94 : decode cX5_shorten 94 = .ok (.aload_n 0, 1) := dk_42 (dk_at dksX5_shorten_4 0 rfl rfl)
theorem dX5_shorten_95 : decode cX5_shorten 95 = .ok (.getfield 25, 3) := dk_180 0 25 (dk_at dksX5_shorten_4 1 rfl rfl)
theorem dX5_shorten_98 : decode cX5_shorten 98 = .ok (.iload_n 2, 1) := dk_28 (dk_at dksX5_shorten_4 4 rfl rfl)
theorem dX5_shorten_99 : decode cX5_shorten 99 = .ok (.aload_n 0, 1) := dk_42 (dk_at dksX5_shorten_4 5 rfl rfl)
theorem dX5_shorten_100 : decode cX5_shorten 100 = .ok (.getfield 25, 3) := dk_180 0 25 (dk_at dksX5_shorten_4 6 rfl rfl)
theorem dX5_shorten_103 : decode cX5_shorten 103 = .ok (.iload_n 3, 1) := dk_29 (dk_at dksX5_shorten_4 9 rfl rfl)
theorem dX5_shorten_104 : decode cX5_shorten 104 = .ok (.laload, 1) := dk_47 (dk_at dksX5_shorten_4 10 rfl rfl)
theorem dX5_shorten_105 : decode cX5_shorten 105 = .ok (.lastore, 1) := dk_80 (dk_at dksX5_shorten_4 11 rfl rfl)
theorem dX5_shorten_106 : decode cX5_shorten 106 = .ok (.iinc 2 1, 3) := dk_132 2 1 (dk_at dksX5_shorten_4 12 rfl rfl)
theorem dX5_shorten_109 : decode cX5_shorten 109 = .ok (.iinc 3 1, 3) := dk_132 3 1 (dk_at dksX5_shorten_4 15 rfl rfl)
theorem dX5_shorten_112 : decode cX5_shorten 112 = .ok (.goto (-87), 3) := dk_167 255 169 (dk_at dksX5_shorten_4 18 rfl rfl)
theorem dX5_shorten_115 : decode cX5_shorten 115 = .ok (.aload_n 0, 1) := dk_42 (dk_at dksX5_shorten_4 21 rfl rfl)
theorem dX5_shorten_116 : decode cX5_shorten 116 = .ok (.iload_n 2, 1) := dk_28 (dk_at dksX5_shorten_4 22 rfl rfl)
theorem dX5_shorten_117 : decode cX5_shorten 117 = .ok (.putfield 65, 3) := dk_181 0 65 (dk_at dksX5_shorten_5 0 rfl rfl)
theorem dX5_shorten_120 : decode cX5_shorten 120 = .ok (.return_, 1) := dk_177 (dk_at dksX5_shorten_5 3 rfl rfl)
abbrev cX5_holds : ByteArray := prog_16_method_14_code
def yX5_holds : MethodName := ⟨RX5, "holds", "(II)Z"⟩
def dkwX5_holds_9 : List UInt8 := [182, 0, 141, 42, 28, 182, 0, 141, 160, 0, 7, 4, 167, 0, 4, 3, 172]
abbrev dktX5_holds_9 : List UInt8 := dkwX5_holds_9 ++ []
def dkwX5_holds_8 : List UInt8 := [4, 100, 182, 0, 141, 42, 28, 182, 0, 141, 159, 0, 7, 4, 167, 0, 4, 3, 172, 42, 28, 4, 100]
abbrev dktX5_holds_8 : List UInt8 := dkwX5_holds_8 ++ dktX5_holds_9
def dkwX5_holds_7 : List UInt8 := [167, 0, 4, 3, 172, 28, 42, 180, 0, 43, 180, 0, 85, 160, 0, 7, 4, 167, 0, 4, 3, 172, 42, 28]
abbrev dktX5_holds_7 : List UInt8 := dkwX5_holds_7 ++ dktX5_holds_8
def dkwX5_holds_6 : List UInt8 := [180, 0, 43, 28, 182, 0, 90, 182, 0, 138, 153, 0, 7, 4, 167, 0, 4, 3, 172, 28, 154, 0, 7, 4]
abbrev dktX5_holds_6 : List UInt8 := dkwX5_holds_6 ++ dktX5_holds_7
def dkwX5_holds_5 : List UInt8 := [180, 0, 43, 180, 0, 85, 162, 0, 34, 42, 180, 0, 39, 42, 180, 0, 39, 180, 0, 117, 27, 46, 42]
abbrev dktX5_holds_5 : List UInt8 := dkwX5_holds_5 ++ dktX5_holds_6
def dkwX5_holds_4 : List UInt8 := [162, 0, 20, 42, 180, 0, 43, 28, 182, 0, 90, 16, 10, 159, 0, 7, 4, 167, 0, 4, 3, 172, 28, 42]
abbrev dktX5_holds_4 : List UInt8 := dkwX5_holds_4 ++ dktX5_holds_5
def dkwX5_holds_3 : List UInt8 := [180, 0, 117, 27, 46, 160, 0, 7, 4, 167, 0, 4, 3, 172, 28, 42, 180, 0, 43, 180, 0, 85]
abbrev dktX5_holds_3 : List UInt8 := dkwX5_holds_3 ++ dktX5_holds_4
def dkwX5_holds_2 : List UInt8 := [28, 42, 180, 0, 43, 180, 0, 85, 162, 0, 27, 42, 180, 0, 43, 28, 182, 0, 90, 42, 180, 0, 39]
abbrev dktX5_holds_2 : List UInt8 := dkwX5_holds_2 ++ dktX5_holds_3
def dkwX5_holds_1 : List UInt8 := [170, 0, 0, 0, 0, 0, 198, 0, 0, 0, 0, 0, 0, 0, 5, 0, 0, 0, 39, 0, 0, 0, 76, 0, 0, 0, 106, 0, 0, 0, 150, 0, 0, 0, 160, 0, 0, 0, 177]
abbrev dktX5_holds_1 : List UInt8 := dkwX5_holds_1 ++ dktX5_holds_2
def dkwX5_holds_0 : List UInt8 := [42, 180, 0, 39, 180, 0, 108, 27, 46]
abbrev dktX5_holds_0 : List UInt8 := dkwX5_holds_0 ++ dktX5_holds_1
theorem dksX5_holds_0 : cX5_holds.data.toList.drop 0 = dktX5_holds_0 := by decide +kernel
theorem dksX5_holds_1 : cX5_holds.data.toList.drop 9 = dktX5_holds_1 := dk_seg dksX5_holds_0 9 rfl rfl
theorem dksX5_holds_2 : cX5_holds.data.toList.drop 48 = dktX5_holds_2 := dk_seg dksX5_holds_1 39 rfl rfl
theorem dksX5_holds_3 : cX5_holds.data.toList.drop 71 = dktX5_holds_3 := dk_seg dksX5_holds_2 23 rfl rfl
theorem dksX5_holds_4 : cX5_holds.data.toList.drop 93 = dktX5_holds_4 := dk_seg dksX5_holds_3 22 rfl rfl
theorem dksX5_holds_5 : cX5_holds.data.toList.drop 117 = dktX5_holds_5 := dk_seg dksX5_holds_4 24 rfl rfl
theorem dksX5_holds_6 : cX5_holds.data.toList.drop 140 = dktX5_holds_6 := dk_seg dksX5_holds_5 23 rfl rfl
theorem dksX5_holds_7 : cX5_holds.data.toList.drop 164 = dktX5_holds_7 := dk_seg dksX5_holds_6 24 rfl rfl
theorem dksX5_holds_8 : cX5_holds.data.toList.drop 188 = dktX5_holds_8 := dk_seg dksX5_holds_7 24 rfl rfl
theorem dksX5_holds_9 : cX5_holds.data.toList.drop 211 = dktX5_holds_9 := dk_seg dksX5_holds_8 23 rfl rfl
theorem dX5_holds_0 : decode cX5_holds 0 = .ok (.aload_n 0, 1) := dk_42 (dk_at dksX5_holds_0 0 rfl rfl)
theorem dX5_holds_1 : decode cX5_holds 1 = .ok (.getfield 39, 3) := dk_180 0 39 (dk_at dksX5_holds_0 1 rfl rfl)
theorem dX5_holds_4 : decode cX5_holds 4 = .ok (.getfield 108, 3) := dk_180 0 108 (dk_at dksX5_holds_0 4 rfl rfl)
theorem dX5_holds_7 : decode cX5_holds 7 = .ok (.iload_n 1, 1) := dk_27 (dk_at dksX5_holds_0 7 rfl rfl)
theorem dX5_holds_8 : decode cX5_holds 8 = .ok (.iaload, 1) := dk_46 (dk_at dksX5_holds_0 8 rfl rfl)
theorem dX5_holds_9 : decode cX5_holds 9 = .ok (.tableswitch 198 0 5 #[39, 76, 106, 150, 160, 177], 39) := by decide +kernel
theorem dX5_holds_48 : decode cX5_holds 48 = .ok (.iload_n 2, 1) := dk_28 (dk_at dksX5_holds_2 0 rfl rfl)
theorem dX5_holds_49 : decode cX5_holds 49 = .ok (.aload_n 0, 1) := dk_42 (dk_at dksX5_holds_2 1 rfl rfl)
theorem dX5_holds_50 : decode cX5_holds 50 = .ok (.getfield 43, 3) := dk_180 0 43 (dk_at dksX5_holds_2 2 rfl rfl)
theorem dX5_holds_53 : decode cX5_holds 53 = .ok (.getfield 85, 3) := dk_180 0 85 (dk_at dksX5_holds_2 5 rfl rfl)
theorem dX5_holds_56 : decode cX5_holds 56 = .ok (.if_icmp .ge 27, 3) := dk_162 0 27 (dk_at dksX5_holds_2 8 rfl rfl)
theorem dX5_holds_59 : decode cX5_holds 59 = .ok (.aload_n 0, 1) := dk_42 (dk_at dksX5_holds_2 11 rfl rfl)
theorem dX5_holds_60 : decode cX5_holds 60 = .ok (.getfield 43, 3) := dk_180 0 43 (dk_at dksX5_holds_2 12 rfl rfl)
theorem dX5_holds_63 : decode cX5_holds 63 = .ok (.iload_n 2, 1) := dk_28 (dk_at dksX5_holds_2 15 rfl rfl)
theorem dX5_holds_64 : decode cX5_holds 64 = .ok (.invokevirtual 90, 3) := dk_182 0 90 (dk_at dksX5_holds_2 16 rfl rfl)
theorem dX5_holds_67 : decode cX5_holds 67 = .ok (.aload_n 0, 1) := dk_42 (dk_at dksX5_holds_2 19 rfl rfl)
theorem dX5_holds_68 : decode cX5_holds 68 = .ok (.getfield 39, 3) := dk_180 0 39 (dk_at dksX5_holds_2 20 rfl rfl)
theorem dX5_holds_71 : decode cX5_holds 71 = .ok (.getfield 117, 3) := dk_180 0 117 (dk_at dksX5_holds_3 0 rfl rfl)
theorem dX5_holds_74 : decode cX5_holds 74 = .ok (.iload_n 1, 1) := dk_27 (dk_at dksX5_holds_3 3 rfl rfl)
theorem dX5_holds_75 : decode cX5_holds 75 = .ok (.iaload, 1) := dk_46 (dk_at dksX5_holds_3 4 rfl rfl)
theorem dX5_holds_76 : decode cX5_holds 76 = .ok (.if_icmp .ne 7, 3) := dk_160 0 7 (dk_at dksX5_holds_3 5 rfl rfl)
theorem dX5_holds_79 : decode cX5_holds 79 = .ok (.iconst 1, 1) := dk_4 (dk_at dksX5_holds_3 8 rfl rfl)
theorem dX5_holds_80 : decode cX5_holds 80 = .ok (.goto 4, 3) := dk_167 0 4 (dk_at dksX5_holds_3 9 rfl rfl)
theorem dX5_holds_83 : decode cX5_holds 83 = .ok (.iconst 0, 1) := dk_3 (dk_at dksX5_holds_3 12 rfl rfl)
theorem dX5_holds_84 : decode cX5_holds 84 = .ok (.ireturn, 1) := dk_172 (dk_at dksX5_holds_3 13 rfl rfl)
theorem dX5_holds_85 : decode cX5_holds 85 = .ok (.iload_n 2, 1) := dk_28 (dk_at dksX5_holds_3 14 rfl rfl)
theorem dX5_holds_86 : decode cX5_holds 86 = .ok (.aload_n 0, 1) := dk_42 (dk_at dksX5_holds_3 15 rfl rfl)
theorem dX5_holds_87 : decode cX5_holds 87 = .ok (.getfield 43, 3) := dk_180 0 43 (dk_at dksX5_holds_3 16 rfl rfl)
theorem dX5_holds_90 : decode cX5_holds 90 = .ok (.getfield 85, 3) := dk_180 0 85 (dk_at dksX5_holds_3 19 rfl rfl)
theorem dX5_holds_93 : decode cX5_holds 93 = .ok (.if_icmp .ge 20, 3) := dk_162 0 20 (dk_at dksX5_holds_4 0 rfl rfl)
theorem dX5_holds_96 : decode cX5_holds 96 = .ok (.aload_n 0, 1) := dk_42 (dk_at dksX5_holds_4 3 rfl rfl)
theorem dX5_holds_97 : decode cX5_holds 97 = .ok (.getfield 43, 3) := dk_180 0 43 (dk_at dksX5_holds_4 4 rfl rfl)
theorem dX5_holds_100 : decode cX5_holds 100 = .ok (.iload_n 2, 1) := dk_28 (dk_at dksX5_holds_4 7 rfl rfl)
theorem dX5_holds_101 : decode cX5_holds 101 = .ok (.invokevirtual 90, 3) := dk_182 0 90 (dk_at dksX5_holds_4 8 rfl rfl)
theorem dX5_holds_104 : decode cX5_holds 104 = .ok (.bipush 10, 2) := dk_16 10 (dk_at dksX5_holds_4 11 rfl rfl)
theorem dX5_holds_106 : decode cX5_holds 106 = .ok (.if_icmp .eq 7, 3) := dk_159 0 7 (dk_at dksX5_holds_4 13 rfl rfl)
theorem dX5_holds_109 : decode cX5_holds 109 = .ok (.iconst 1, 1) := dk_4 (dk_at dksX5_holds_4 16 rfl rfl)
theorem dX5_holds_110 : decode cX5_holds 110 = .ok (.goto 4, 3) := dk_167 0 4 (dk_at dksX5_holds_4 17 rfl rfl)
theorem dX5_holds_113 : decode cX5_holds 113 = .ok (.iconst 0, 1) := dk_3 (dk_at dksX5_holds_4 20 rfl rfl)
theorem dX5_holds_114 : decode cX5_holds 114 = .ok (.ireturn, 1) := dk_172 (dk_at dksX5_holds_4 21 rfl rfl)
theorem dX5_holds_115 : decode cX5_holds 115 = .ok (.iload_n 2, 1) := dk_28 (dk_at dksX5_holds_4 22 rfl rfl)
theorem dX5_holds_116 : decode cX5_holds 116 = .ok (.aload_n 0, 1) := dk_42 (dk_at dksX5_holds_4 23 rfl rfl)
theorem dX5_holds_117 : decode cX5_holds 117 = .ok (.getfield 43, 3) := dk_180 0 43 (dk_at dksX5_holds_5 0 rfl rfl)
theorem dX5_holds_120 : decode cX5_holds 120 = .ok (.getfield 85, 3) := dk_180 0 85 (dk_at dksX5_holds_5 3 rfl rfl)
theorem dX5_holds_123 : decode cX5_holds 123 = .ok (.if_icmp .ge 34, 3) := dk_162 0 34 (dk_at dksX5_holds_5 6 rfl rfl)
theorem dX5_holds_126 : decode cX5_holds 126 = .ok (.aload_n 0, 1) := dk_42 (dk_at dksX5_holds_5 9 rfl rfl)
theorem dX5_holds_127 : decode cX5_holds 127 = .ok (.getfield 39, 3) := dk_180 0 39 (dk_at dksX5_holds_5 10 rfl rfl)
theorem dX5_holds_130 : decode cX5_holds 130 = .ok (.aload_n 0, 1) := dk_42 (dk_at dksX5_holds_5 13 rfl rfl)
theorem dX5_holds_131 : decode cX5_holds 131 = .ok (.getfield 39, 3) := dk_180 0 39 (dk_at dksX5_holds_5 14 rfl rfl)
theorem dX5_holds_134 : decode cX5_holds 134 = .ok (.getfield 117, 3) := dk_180 0 117 (dk_at dksX5_holds_5 17 rfl rfl)
theorem dX5_holds_137 : decode cX5_holds 137 = .ok (.iload_n 1, 1) := dk_27 (dk_at dksX5_holds_5 20 rfl rfl)
theorem dX5_holds_138 : decode cX5_holds 138 = .ok (.iaload, 1) := dk_46 (dk_at dksX5_holds_5 21 rfl rfl)
theorem dX5_holds_139 : decode cX5_holds 139 = .ok (.aload_n 0, 1) := dk_42 (dk_at dksX5_holds_5 22 rfl rfl)
theorem dX5_holds_140 : decode cX5_holds 140 = .ok (.getfield 43, 3) := dk_180 0 43 (dk_at dksX5_holds_6 0 rfl rfl)
theorem dX5_holds_143 : decode cX5_holds 143 = .ok (.iload_n 2, 1) := dk_28 (dk_at dksX5_holds_6 3 rfl rfl)
theorem dX5_holds_144 : decode cX5_holds 144 = .ok (.invokevirtual 90, 3) := dk_182 0 90 (dk_at dksX5_holds_6 4 rfl rfl)
theorem dX5_holds_147 : decode cX5_holds 147 = .ok (.invokevirtual 138, 3) := dk_182 0 138 (dk_at dksX5_holds_6 7 rfl rfl)
theorem dX5_holds_150 : decode cX5_holds 150 = .ok (.ifCond .eq 7, 3) := dk_153 0 7 (dk_at dksX5_holds_6 10 rfl rfl)
theorem dX5_holds_153 : decode cX5_holds 153 = .ok (.iconst 1, 1) := dk_4 (dk_at dksX5_holds_6 13 rfl rfl)
theorem dX5_holds_154 : decode cX5_holds 154 = .ok (.goto 4, 3) := dk_167 0 4 (dk_at dksX5_holds_6 14 rfl rfl)
theorem dX5_holds_157 : decode cX5_holds 157 = .ok (.iconst 0, 1) := dk_3 (dk_at dksX5_holds_6 17 rfl rfl)
theorem dX5_holds_158 : decode cX5_holds 158 = .ok (.ireturn, 1) := dk_172 (dk_at dksX5_holds_6 18 rfl rfl)
theorem dX5_holds_159 : decode cX5_holds 159 = .ok (.iload_n 2, 1) := dk_28 (dk_at dksX5_holds_6 19 rfl rfl)
theorem dX5_holds_160 : decode cX5_holds 160 = .ok (.ifCond .ne 7, 3) := dk_154 0 7 (dk_at dksX5_holds_6 20 rfl rfl)
theorem dX5_holds_163 : decode cX5_holds 163 = .ok (.iconst 1, 1) := dk_4 (dk_at dksX5_holds_6 23 rfl rfl)
theorem dX5_holds_164 : decode cX5_holds 164 = .ok (.goto 4, 3) := dk_167 0 4 (dk_at dksX5_holds_7 0 rfl rfl)
theorem dX5_holds_167 : decode cX5_holds 167 = .ok (.iconst 0, 1) := dk_3 (dk_at dksX5_holds_7 3 rfl rfl)
theorem dX5_holds_168 : decode cX5_holds 168 = .ok (.ireturn, 1) := dk_172 (dk_at dksX5_holds_7 4 rfl rfl)
theorem dX5_holds_169 : decode cX5_holds 169 = .ok (.iload_n 2, 1) := dk_28 (dk_at dksX5_holds_7 5 rfl rfl)
theorem dX5_holds_170 : decode cX5_holds 170 = .ok (.aload_n 0, 1) := dk_42 (dk_at dksX5_holds_7 6 rfl rfl)
theorem dX5_holds_171 : decode cX5_holds 171 = .ok (.getfield 43, 3) := dk_180 0 43 (dk_at dksX5_holds_7 7 rfl rfl)
theorem dX5_holds_174 : decode cX5_holds 174 = .ok (.getfield 85, 3) := dk_180 0 85 (dk_at dksX5_holds_7 10 rfl rfl)
theorem dX5_holds_177 : decode cX5_holds 177 = .ok (.if_icmp .ne 7, 3) := dk_160 0 7 (dk_at dksX5_holds_7 13 rfl rfl)
theorem dX5_holds_180 : decode cX5_holds 180 = .ok (.iconst 1, 1) := dk_4 (dk_at dksX5_holds_7 16 rfl rfl)
theorem dX5_holds_181 : decode cX5_holds 181 = .ok (.goto 4, 3) := dk_167 0 4 (dk_at dksX5_holds_7 17 rfl rfl)
theorem dX5_holds_184 : decode cX5_holds 184 = .ok (.iconst 0, 1) := dk_3 (dk_at dksX5_holds_7 20 rfl rfl)
theorem dX5_holds_185 : decode cX5_holds 185 = .ok (.ireturn, 1) := dk_172 (dk_at dksX5_holds_7 21 rfl rfl)
theorem dX5_holds_186 : decode cX5_holds 186 = .ok (.aload_n 0, 1) := dk_42 (dk_at dksX5_holds_7 22 rfl rfl)
theorem dX5_holds_187 : decode cX5_holds 187 = .ok (.iload_n 2, 1) := dk_28 (dk_at dksX5_holds_7 23 rfl rfl)
theorem dX5_holds_188 : decode cX5_holds 188 = .ok (.iconst 1, 1) := dk_4 (dk_at dksX5_holds_8 0 rfl rfl)
theorem dX5_holds_189 : decode cX5_holds 189 = .ok (.isub, 1) := dk_100 (dk_at dksX5_holds_8 1 rfl rfl)
theorem dX5_holds_190 : decode cX5_holds 190 = .ok (.invokevirtual 141, 3) := dk_182 0 141 (dk_at dksX5_holds_8 2 rfl rfl)
theorem dX5_holds_193 : decode cX5_holds 193 = .ok (.aload_n 0, 1) := dk_42 (dk_at dksX5_holds_8 5 rfl rfl)
theorem dX5_holds_194 : decode cX5_holds 194 = .ok (.iload_n 2, 1) := dk_28 (dk_at dksX5_holds_8 6 rfl rfl)
theorem dX5_holds_195 : decode cX5_holds 195 = .ok (.invokevirtual 141, 3) := dk_182 0 141 (dk_at dksX5_holds_8 7 rfl rfl)
theorem dX5_holds_198 : decode cX5_holds 198 = .ok (.if_icmp .eq 7, 3) := dk_159 0 7 (dk_at dksX5_holds_8 10 rfl rfl)
theorem dX5_holds_201 : decode cX5_holds 201 = .ok (.iconst 1, 1) := dk_4 (dk_at dksX5_holds_8 13 rfl rfl)
theorem dX5_holds_202 : decode cX5_holds 202 = .ok (.goto 4, 3) := dk_167 0 4 (dk_at dksX5_holds_8 14 rfl rfl)
theorem dX5_holds_205 : decode cX5_holds 205 = .ok (.iconst 0, 1) := dk_3 (dk_at dksX5_holds_8 17 rfl rfl)
theorem dX5_holds_206 : decode cX5_holds 206 = .ok (.ireturn, 1) := dk_172 (dk_at dksX5_holds_8 18 rfl rfl)
theorem dX5_holds_207 : decode cX5_holds 207 = .ok (.aload_n 0, 1) := dk_42 (dk_at dksX5_holds_8 19 rfl rfl)
theorem dX5_holds_208 : decode cX5_holds 208 = .ok (.iload_n 2, 1) := dk_28 (dk_at dksX5_holds_8 20 rfl rfl)
theorem dX5_holds_209 : decode cX5_holds 209 = .ok (.iconst 1, 1) := dk_4 (dk_at dksX5_holds_8 21 rfl rfl)
theorem dX5_holds_210 : decode cX5_holds 210 = .ok (.isub, 1) := dk_100 (dk_at dksX5_holds_8 22 rfl rfl)
theorem dX5_holds_211 : decode cX5_holds 211 = .ok (.invokevirtual 141, 3) := dk_182 0 141 (dk_at dksX5_holds_9 0 rfl rfl)
theorem dX5_holds_214 : decode cX5_holds 214 = .ok (.aload_n 0, 1) := dk_42 (dk_at dksX5_holds_9 3 rfl rfl)
theorem dX5_holds_215 : decode cX5_holds 215 = .ok (.iload_n 2, 1) := dk_28 (dk_at dksX5_holds_9 4 rfl rfl)
theorem dX5_holds_216 : decode cX5_holds 216 = .ok (.invokevirtual 141, 3) := dk_182 0 141 (dk_at dksX5_holds_9 5 rfl rfl)
theorem dX5_holds_219 : decode cX5_holds 219 = .ok (.if_icmp .ne 7, 3) := dk_160 0 7 (dk_at dksX5_holds_9 8 rfl rfl)
theorem dX5_holds_222 : decode cX5_holds 222 = .ok (.iconst 1, 1) := dk_4 (dk_at dksX5_holds_9 11 rfl rfl)
theorem dX5_holds_223 : decode cX5_holds 223 = .ok (.goto 4, 3) := dk_167 0 4 (dk_at dksX5_holds_9 12 rfl rfl)
theorem dX5_holds_226 : decode cX5_holds 226 = .ok (.iconst 0, 1) := dk_3 (dk_at dksX5_holds_9 15 rfl rfl)
theorem dX5_holds_227 : decode cX5_holds 227 = .ok (.ireturn, 1) := dk_172 (dk_at dksX5_holds_9 16 rfl rfl)
abbrev cX5_isWordAt : ByteArray := prog_16_method_10_code
def yX5_isWordAt : MethodName := ⟨RX5, "isWordAt", "(I)Z"⟩
def dkwX5_isWordAt_1 : List UInt8 := [184, 0, 94, 153, 0, 7, 4, 167, 0, 4, 3, 172]
abbrev dktX5_isWordAt_1 : List UInt8 := dkwX5_isWordAt_1 ++ []
def dkwX5_isWordAt_0 : List UInt8 := [27, 155, 0, 32, 27, 42, 180, 0, 43, 180, 0, 85, 162, 0, 21, 42, 180, 0, 43, 27, 182, 0, 90]
abbrev dktX5_isWordAt_0 : List UInt8 := dkwX5_isWordAt_0 ++ dktX5_isWordAt_1
theorem dksX5_isWordAt_0 : cX5_isWordAt.data.toList.drop 0 = dktX5_isWordAt_0 := by decide +kernel
theorem dksX5_isWordAt_1 : cX5_isWordAt.data.toList.drop 23 = dktX5_isWordAt_1 := dk_seg dksX5_isWordAt_0 23 rfl rfl
theorem dX5_isWordAt_0 : decode cX5_isWordAt 0 = .ok (.iload_n 1, 1) := dk_27 (dk_at dksX5_isWordAt_0 0 rfl rfl)
theorem dX5_isWordAt_1 : decode cX5_isWordAt 1 = .ok (.ifCond .lt 32, 3) := dk_155 0 32 (dk_at dksX5_isWordAt_0 1 rfl rfl)
theorem dX5_isWordAt_4 : decode cX5_isWordAt 4 = .ok (.iload_n 1, 1) := dk_27 (dk_at dksX5_isWordAt_0 4 rfl rfl)
theorem dX5_isWordAt_5 : decode cX5_isWordAt 5 = .ok (.aload_n 0, 1) := dk_42 (dk_at dksX5_isWordAt_0 5 rfl rfl)
theorem dX5_isWordAt_6 : decode cX5_isWordAt 6 = .ok (.getfield 43, 3) := dk_180 0 43 (dk_at dksX5_isWordAt_0 6 rfl rfl)
theorem dX5_isWordAt_9 : decode cX5_isWordAt 9 = .ok (.getfield 85, 3) := dk_180 0 85 (dk_at dksX5_isWordAt_0 9 rfl rfl)
theorem dX5_isWordAt_12 : decode cX5_isWordAt 12 = .ok (.if_icmp .ge 21, 3) := dk_162 0 21 (dk_at dksX5_isWordAt_0 12 rfl rfl)
theorem dX5_isWordAt_15 : decode cX5_isWordAt 15 = .ok (.aload_n 0, 1) := dk_42 (dk_at dksX5_isWordAt_0 15 rfl rfl)
theorem dX5_isWordAt_16 : decode cX5_isWordAt 16 = .ok (.getfield 43, 3) := dk_180 0 43 (dk_at dksX5_isWordAt_0 16 rfl rfl)
theorem dX5_isWordAt_19 : decode cX5_isWordAt 19 = .ok (.iload_n 1, 1) := dk_27 (dk_at dksX5_isWordAt_0 19 rfl rfl)
theorem dX5_isWordAt_20 : decode cX5_isWordAt 20 = .ok (.invokevirtual 90, 3) := dk_182 0 90 (dk_at dksX5_isWordAt_0 20 rfl rfl)
theorem dX5_isWordAt_23 : decode cX5_isWordAt 23 = .ok (.invokestatic 94, 3) := dk_184 0 94 (dk_at dksX5_isWordAt_1 0 rfl rfl)
theorem dX5_isWordAt_26 : decode cX5_isWordAt 26 = .ok (.ifCond .eq 7, 3) := dk_153 0 7 (dk_at dksX5_isWordAt_1 3 rfl rfl)
theorem dX5_isWordAt_29 : decode cX5_isWordAt 29 = .ok (.iconst 1, 1) := dk_4 (dk_at dksX5_isWordAt_1 6 rfl rfl)
theorem dX5_isWordAt_30 : decode cX5_isWordAt 30 = .ok (.goto 4, 3) := dk_167 0 4 (dk_at dksX5_isWordAt_1 7 rfl rfl)
theorem dX5_isWordAt_33 : decode cX5_isWordAt 33 = .ok (.iconst 0, 1) := dk_3 (dk_at dksX5_isWordAt_1 10 rfl rfl)
theorem dX5_isWordAt_34 : decode cX5_isWordAt 34 = .ok (.ireturn, 1) := dk_172 (dk_at dksX5_isWordAt_1 11 rfl rfl)
abbrev cX5_keep : ByteArray := prog_16_method_16_code
def yX5_keep : MethodName := ⟨RX5, "keep", "()V"⟩
def dkwX5_keep_1 : List UInt8 := [167, 255, 235, 177]
abbrev dktX5_keep_1 : List UInt8 := dkwX5_keep_1 ++ []
def dkwX5_keep_0 : List UInt8 := [3, 60, 27, 16, 20, 162, 0, 21, 42, 180, 0, 22, 27, 42, 180, 0, 18, 27, 46, 79, 132, 1, 1]
abbrev dktX5_keep_0 : List UInt8 := dkwX5_keep_0 ++ dktX5_keep_1
theorem dksX5_keep_0 : cX5_keep.data.toList.drop 0 = dktX5_keep_0 := by decide +kernel
theorem dksX5_keep_1 : cX5_keep.data.toList.drop 23 = dktX5_keep_1 := dk_seg dksX5_keep_0 23 rfl rfl
theorem dX5_keep_0 : decode cX5_keep 0 = .ok (.iconst 0, 1) := dk_3 (dk_at dksX5_keep_0 0 rfl rfl)
theorem dX5_keep_1 : decode cX5_keep 1 = .ok (.istore_n 1, 1) := dk_60 (dk_at dksX5_keep_0 1 rfl rfl)
theorem dX5_keep_2 : decode cX5_keep 2 = .ok (.iload_n 1, 1) := dk_27 (dk_at dksX5_keep_0 2 rfl rfl)
theorem dX5_keep_3 : decode cX5_keep 3 = .ok (.bipush 20, 2) := dk_16 20 (dk_at dksX5_keep_0 3 rfl rfl)
theorem dX5_keep_5 : decode cX5_keep 5 = .ok (.if_icmp .ge 21, 3) := dk_162 0 21 (dk_at dksX5_keep_0 5 rfl rfl)
theorem dX5_keep_8 : decode cX5_keep 8 = .ok (.aload_n 0, 1) := dk_42 (dk_at dksX5_keep_0 8 rfl rfl)
theorem dX5_keep_9 : decode cX5_keep 9 = .ok (.getfield 22, 3) := dk_180 0 22 (dk_at dksX5_keep_0 9 rfl rfl)
theorem dX5_keep_12 : decode cX5_keep 12 = .ok (.iload_n 1, 1) := dk_27 (dk_at dksX5_keep_0 12 rfl rfl)
theorem dX5_keep_13 : decode cX5_keep 13 = .ok (.aload_n 0, 1) := dk_42 (dk_at dksX5_keep_0 13 rfl rfl)
theorem dX5_keep_14 : decode cX5_keep 14 = .ok (.getfield 18, 3) := dk_180 0 18 (dk_at dksX5_keep_0 14 rfl rfl)
theorem dX5_keep_17 : decode cX5_keep 17 = .ok (.iload_n 1, 1) := dk_27 (dk_at dksX5_keep_0 17 rfl rfl)
theorem dX5_keep_18 : decode cX5_keep 18 = .ok (.iaload, 1) := dk_46 (dk_at dksX5_keep_0 18 rfl rfl)
theorem dX5_keep_19 : decode cX5_keep 19 = .ok (.iastore, 1) := dk_79 (dk_at dksX5_keep_0 19 rfl rfl)
theorem dX5_keep_20 : decode cX5_keep 20 = .ok (.iinc 1 1, 3) := dk_132 1 1 (dk_at dksX5_keep_0 20 rfl rfl)
theorem dX5_keep_23 : decode cX5_keep 23 = .ok (.goto (-21), 3) := dk_167 255 235 (dk_at dksX5_keep_1 0 rfl rfl)
theorem dX5_keep_26 : decode cX5_keep 26 = .ok (.return_, 1) := dk_177 (dk_at dksX5_keep_1 3 rfl rfl)
abbrev cX5_replace : ByteArray := prog_16_method_22_code
def yX5_replace : MethodName := ⟨RX5, "replace", "(LLibraryDesk$PatternThing;LLibraryDesk$TextThing;[BI)I"⟩
def dkwX5_replace_8 : List UInt8 := [181, 0, 85, 21, 5, 172]
abbrev dktX5_replace_8 : List UInt8 := dkwX5_replace_8 ++ []
def dkwX5_replace_7 : List UInt8 := [180, 0, 43, 180, 0, 181, 3, 42, 180, 0, 154, 184, 0, 71, 42, 180, 0, 43, 42, 180, 0, 154]
abbrev dktX5_replace_7 : List UInt8 := dkwX5_replace_7 ++ dktX5_replace_8
def dkwX5_replace_6 : List UInt8 := [167, 255, 143, 42, 21, 6, 42, 180, 0, 43, 180, 0, 85, 182, 0, 171, 42, 180, 0, 32, 3, 42]
abbrev dktX5_replace_6 : List UInt8 := dkwX5_replace_6 ++ dktX5_replace_7
def dkwX5_replace_5 : List UInt8 := [21, 8, 42, 180, 0, 18, 3, 46, 164, 0, 8, 21, 8, 167, 0, 7, 21, 8, 4, 96, 54, 7]
abbrev dktX5_replace_5 : List UInt8 := dkwX5_replace_5 ++ dktX5_replace_6
def dkwX5_replace_4 : List UInt8 := [42, 21, 6, 42, 180, 0, 18, 3, 46, 182, 0, 171, 42, 45, 21, 4, 182, 0, 178, 21, 8, 54, 6]
abbrev dktX5_replace_4 : List UInt8 := dkwX5_replace_4 ++ dktX5_replace_5
def dkwX5_replace_3 : List UInt8 := [21, 9, 182, 0, 148, 54, 8, 132, 9, 1, 167, 255, 228, 21, 8, 156, 0, 6, 167, 0, 54, 132, 5, 1]
abbrev dktX5_replace_3 : List UInt8 := dkwX5_replace_3 ++ dktX5_replace_4
def dkwX5_replace_2 : List UInt8 := [54, 8, 21, 7, 54, 9, 21, 9, 42, 180, 0, 43, 180, 0, 85, 163, 0, 22, 21, 8, 156, 0, 17, 42]
abbrev dktX5_replace_2 : List UInt8 := dkwX5_replace_2 ++ dktX5_replace_3
def dkwX5_replace_1 : List UInt8 := [181, 0, 43, 21, 7, 42, 180, 0, 43, 180, 0, 85, 163, 0, 107, 42, 43, 44, 3, 182, 0, 144, 2]
abbrev dktX5_replace_1 : List UInt8 := dkwX5_replace_1 ++ dktX5_replace_2
def dkwX5_replace_0 : List UInt8 := [45, 21, 4, 184, 0, 174, 42, 3, 181, 0, 154, 3, 54, 5, 3, 54, 6, 3, 54, 7, 42, 44]
abbrev dktX5_replace_0 : List UInt8 := dkwX5_replace_0 ++ dktX5_replace_1
theorem dksX5_replace_0 : cX5_replace.data.toList.drop 0 = dktX5_replace_0 := by decide +kernel
theorem dksX5_replace_1 : cX5_replace.data.toList.drop 22 = dktX5_replace_1 := dk_seg dksX5_replace_0 22 rfl rfl
theorem dksX5_replace_2 : cX5_replace.data.toList.drop 45 = dktX5_replace_2 := dk_seg dksX5_replace_1 23 rfl rfl
theorem dksX5_replace_3 : cX5_replace.data.toList.drop 69 = dktX5_replace_3 := dk_seg dksX5_replace_2 24 rfl rfl
theorem dksX5_replace_4 : cX5_replace.data.toList.drop 93 = dktX5_replace_4 := dk_seg dksX5_replace_3 24 rfl rfl
theorem dksX5_replace_5 : cX5_replace.data.toList.drop 116 = dktX5_replace_5 := dk_seg dksX5_replace_4 23 rfl rfl
theorem dksX5_replace_6 : cX5_replace.data.toList.drop 138 = dktX5_replace_6 := dk_seg dksX5_replace_5 22 rfl rfl
theorem dksX5_replace_7 : cX5_replace.data.toList.drop 160 = dktX5_replace_7 := dk_seg dksX5_replace_6 22 rfl rfl
theorem dksX5_replace_8 : cX5_replace.data.toList.drop 182 = dktX5_replace_8 := dk_seg dksX5_replace_7 22 rfl rfl
theorem dX5_replace_0 : decode cX5_replace 0 = .ok (.aload_n 3, 1) := dk_45 (dk_at dksX5_replace_0 0 rfl rfl)
theorem dX5_replace_1 : decode cX5_replace 1 = .ok (.iload 4, 2) := dk_21 4 (dk_at dksX5_replace_0 1 rfl rfl)
theorem dX5_replace_3 : decode cX5_replace 3 = .ok (.invokestatic 174, 3) := dk_184 0 174 (dk_at dksX5_replace_0 3 rfl rfl)
theorem dX5_replace_6 : decode cX5_replace 6 = .ok (.aload_n 0, 1) := dk_42 (dk_at dksX5_replace_0 6 rfl rfl)
theorem dX5_replace_7 : decode cX5_replace 7 = .ok (.iconst 0, 1) := dk_3 (dk_at dksX5_replace_0 7 rfl rfl)
theorem dX5_replace_8 : decode cX5_replace 8 = .ok (.putfield 154, 3) := dk_181 0 154 (dk_at dksX5_replace_0 8 rfl rfl)
theorem dX5_replace_11 : decode cX5_replace 11 = .ok (.iconst 0, 1) := dk_3 (dk_at dksX5_replace_0 11 rfl rfl)
theorem dX5_replace_12 : decode cX5_replace 12 = .ok (.istore 5, 2) := dk_54 5 (dk_at dksX5_replace_0 12 rfl rfl)
theorem dX5_replace_14 : decode cX5_replace 14 = .ok (.iconst 0, 1) := dk_3 (dk_at dksX5_replace_0 14 rfl rfl)
theorem dX5_replace_15 : decode cX5_replace 15 = .ok (.istore 6, 2) := dk_54 6 (dk_at dksX5_replace_0 15 rfl rfl)
theorem dX5_replace_17 : decode cX5_replace 17 = .ok (.iconst 0, 1) := dk_3 (dk_at dksX5_replace_0 17 rfl rfl)
theorem dX5_replace_18 : decode cX5_replace 18 = .ok (.istore 7, 2) := dk_54 7 (dk_at dksX5_replace_0 18 rfl rfl)
theorem dX5_replace_20 : decode cX5_replace 20 = .ok (.aload_n 0, 1) := dk_42 (dk_at dksX5_replace_0 20 rfl rfl)
theorem dX5_replace_21 : decode cX5_replace 21 = .ok (.aload_n 2, 1) := dk_44 (dk_at dksX5_replace_0 21 rfl rfl)
theorem dX5_replace_22 : decode cX5_replace 22 = .ok (.putfield 43, 3) := dk_181 0 43 (dk_at dksX5_replace_1 0 rfl rfl)
theorem dX5_replace_25 : decode cX5_replace 25 = .ok (.iload 7, 2) := dk_21 7 (dk_at dksX5_replace_1 3 rfl rfl)
theorem dX5_replace_27 : decode cX5_replace 27 = .ok (.aload_n 0, 1) := dk_42 (dk_at dksX5_replace_1 5 rfl rfl)
theorem dX5_replace_28 : decode cX5_replace 28 = .ok (.getfield 43, 3) := dk_180 0 43 (dk_at dksX5_replace_1 6 rfl rfl)
theorem dX5_replace_31 : decode cX5_replace 31 = .ok (.getfield 85, 3) := dk_180 0 85 (dk_at dksX5_replace_1 9 rfl rfl)
theorem dX5_replace_34 : decode cX5_replace 34 = .ok (.if_icmp .gt 107, 3) := dk_163 0 107 (dk_at dksX5_replace_1 12 rfl rfl)
theorem dX5_replace_37 : decode cX5_replace 37 = .ok (.aload_n 0, 1) := dk_42 (dk_at dksX5_replace_1 15 rfl rfl)
theorem dX5_replace_38 : decode cX5_replace 38 = .ok (.aload_n 1, 1) := dk_43 (dk_at dksX5_replace_1 16 rfl rfl)
theorem dX5_replace_39 : decode cX5_replace 39 = .ok (.aload_n 2, 1) := dk_44 (dk_at dksX5_replace_1 17 rfl rfl)
theorem dX5_replace_40 : decode cX5_replace 40 = .ok (.iconst 0, 1) := dk_3 (dk_at dksX5_replace_1 18 rfl rfl)
theorem dX5_replace_41 : decode cX5_replace 41 = .ok (.invokevirtual 144, 3) := dk_182 0 144 (dk_at dksX5_replace_1 19 rfl rfl)
theorem dX5_replace_44 : decode cX5_replace 44 = .ok (.iconst (-1), 1) := dk_2 (dk_at dksX5_replace_1 22 rfl rfl)
theorem dX5_replace_45 : decode cX5_replace 45 = .ok (.istore 8, 2) := dk_54 8 (dk_at dksX5_replace_2 0 rfl rfl)
theorem dX5_replace_47 : decode cX5_replace 47 = .ok (.iload 7, 2) := dk_21 7 (dk_at dksX5_replace_2 2 rfl rfl)
theorem dX5_replace_49 : decode cX5_replace 49 = .ok (.istore 9, 2) := dk_54 9 (dk_at dksX5_replace_2 4 rfl rfl)
theorem dX5_replace_51 : decode cX5_replace 51 = .ok (.iload 9, 2) := dk_21 9 (dk_at dksX5_replace_2 6 rfl rfl)
theorem dX5_replace_53 : decode cX5_replace 53 = .ok (.aload_n 0, 1) := dk_42 (dk_at dksX5_replace_2 8 rfl rfl)
theorem dX5_replace_54 : decode cX5_replace 54 = .ok (.getfield 43, 3) := dk_180 0 43 (dk_at dksX5_replace_2 9 rfl rfl)
theorem dX5_replace_57 : decode cX5_replace 57 = .ok (.getfield 85, 3) := dk_180 0 85 (dk_at dksX5_replace_2 12 rfl rfl)
theorem dX5_replace_60 : decode cX5_replace 60 = .ok (.if_icmp .gt 22, 3) := dk_163 0 22 (dk_at dksX5_replace_2 15 rfl rfl)
theorem dX5_replace_63 : decode cX5_replace 63 = .ok (.iload 8, 2) := dk_21 8 (dk_at dksX5_replace_2 18 rfl rfl)
theorem dX5_replace_65 : decode cX5_replace 65 = .ok (.ifCond .ge 17, 3) := dk_156 0 17 (dk_at dksX5_replace_2 20 rfl rfl)
theorem dX5_replace_68 : decode cX5_replace 68 = .ok (.aload_n 0, 1) := dk_42 (dk_at dksX5_replace_2 23 rfl rfl)
theorem dX5_replace_69 : decode cX5_replace 69 = .ok (.iload 9, 2) := dk_21 9 (dk_at dksX5_replace_3 0 rfl rfl)
theorem dX5_replace_71 : decode cX5_replace 71 = .ok (.invokevirtual 148, 3) := dk_182 0 148 (dk_at dksX5_replace_3 2 rfl rfl)
theorem dX5_replace_74 : decode cX5_replace 74 = .ok (.istore 8, 2) := dk_54 8 (dk_at dksX5_replace_3 5 rfl rfl)
theorem dX5_replace_76 : decode cX5_replace 76 = .ok (.iinc 9 1, 3) := dk_132 9 1 (dk_at dksX5_replace_3 7 rfl rfl)
theorem dX5_replace_79 : decode cX5_replace 79 = .ok (.goto (-28), 3) := dk_167 255 228 (dk_at dksX5_replace_3 10 rfl rfl)
theorem dX5_replace_82 : decode cX5_replace 82 = .ok (.iload 8, 2) := dk_21 8 (dk_at dksX5_replace_3 13 rfl rfl)
theorem dX5_replace_84 : decode cX5_replace 84 = .ok (.ifCond .ge 6, 3) := dk_156 0 6 (dk_at dksX5_replace_3 15 rfl rfl)
theorem dX5_replace_87 : decode cX5_replace 87 = .ok (.goto 54, 3) := dk_167 0 54 (dk_at dksX5_replace_3 18 rfl rfl)
theorem dX5_replace_90 : decode cX5_replace 90 = .ok (.iinc 5 1, 3) := dk_132 5 1 (dk_at dksX5_replace_3 21 rfl rfl)
theorem dX5_replace_93 : decode cX5_replace 93 = .ok (.aload_n 0, 1) := dk_42 (dk_at dksX5_replace_4 0 rfl rfl)
theorem dX5_replace_94 : decode cX5_replace 94 = .ok (.iload 6, 2) := dk_21 6 (dk_at dksX5_replace_4 1 rfl rfl)
theorem dX5_replace_96 : decode cX5_replace 96 = .ok (.aload_n 0, 1) := dk_42 (dk_at dksX5_replace_4 3 rfl rfl)
theorem dX5_replace_97 : decode cX5_replace 97 = .ok (.getfield 18, 3) := dk_180 0 18 (dk_at dksX5_replace_4 4 rfl rfl)
theorem dX5_replace_100 : decode cX5_replace 100 = .ok (.iconst 0, 1) := dk_3 (dk_at dksX5_replace_4 7 rfl rfl)
theorem dX5_replace_101 : decode cX5_replace 101 = .ok (.iaload, 1) := dk_46 (dk_at dksX5_replace_4 8 rfl rfl)
theorem dX5_replace_102 : decode cX5_replace 102 = .ok (.invokevirtual 171, 3) := dk_182 0 171 (dk_at dksX5_replace_4 9 rfl rfl)
theorem dX5_replace_105 : decode cX5_replace 105 = .ok (.aload_n 0, 1) := dk_42 (dk_at dksX5_replace_4 12 rfl rfl)
theorem dX5_replace_106 : decode cX5_replace 106 = .ok (.aload_n 3, 1) := dk_45 (dk_at dksX5_replace_4 13 rfl rfl)
theorem dX5_replace_107 : decode cX5_replace 107 = .ok (.iload 4, 2) := dk_21 4 (dk_at dksX5_replace_4 14 rfl rfl)
theorem dX5_replace_109 : decode cX5_replace 109 = .ok (.invokevirtual 178, 3) := dk_182 0 178 (dk_at dksX5_replace_4 16 rfl rfl)
theorem dX5_replace_112 : decode cX5_replace 112 = .ok (.iload 8, 2) := dk_21 8 (dk_at dksX5_replace_4 19 rfl rfl)
theorem dX5_replace_114 : decode cX5_replace 114 = .ok (.istore 6, 2) := dk_54 6 (dk_at dksX5_replace_4 21 rfl rfl)
theorem dX5_replace_116 : decode cX5_replace 116 = .ok (.iload 8, 2) := dk_21 8 (dk_at dksX5_replace_5 0 rfl rfl)
theorem dX5_replace_118 : decode cX5_replace 118 = .ok (.aload_n 0, 1) := dk_42 (dk_at dksX5_replace_5 2 rfl rfl)
theorem dX5_replace_119 : decode cX5_replace 119 = .ok (.getfield 18, 3) := dk_180 0 18 (dk_at dksX5_replace_5 3 rfl rfl)
theorem dX5_replace_122 : decode cX5_replace 122 = .ok (.iconst 0, 1) := dk_3 (dk_at dksX5_replace_5 6 rfl rfl)
theorem dX5_replace_123 : decode cX5_replace 123 = .ok (.iaload, 1) := dk_46 (dk_at dksX5_replace_5 7 rfl rfl)
theorem dX5_replace_124 : decode cX5_replace 124 = .ok (.if_icmp .le 8, 3) := dk_164 0 8 (dk_at dksX5_replace_5 8 rfl rfl)
theorem dX5_replace_127 : decode cX5_replace 127 = .ok (.iload 8, 2) := dk_21 8 (dk_at dksX5_replace_5 11 rfl rfl)
theorem dX5_replace_129 : decode cX5_replace 129 = .ok (.goto 7, 3) := dk_167 0 7 (dk_at dksX5_replace_5 13 rfl rfl)
theorem dX5_replace_132 : decode cX5_replace 132 = .ok (.iload 8, 2) := dk_21 8 (dk_at dksX5_replace_5 16 rfl rfl)
theorem dX5_replace_134 : decode cX5_replace 134 = .ok (.iconst 1, 1) := dk_4 (dk_at dksX5_replace_5 18 rfl rfl)
theorem dX5_replace_135 : decode cX5_replace 135 = .ok (.iadd, 1) := dk_96 (dk_at dksX5_replace_5 19 rfl rfl)
theorem dX5_replace_136 : decode cX5_replace 136 = .ok (.istore 7, 2) := dk_54 7 (dk_at dksX5_replace_5 20 rfl rfl)
theorem dX5_replace_138 : decode cX5_replace 138 = .ok (.goto (-113), 3) := dk_167 255 143 (dk_at dksX5_replace_6 0 rfl rfl)
theorem dX5_replace_141 : decode cX5_replace 141 = .ok (.aload_n 0, 1) := dk_42 (dk_at dksX5_replace_6 3 rfl rfl)
theorem dX5_replace_142 : decode cX5_replace 142 = .ok (.iload 6, 2) := dk_21 6 (dk_at dksX5_replace_6 4 rfl rfl)
theorem dX5_replace_144 : decode cX5_replace 144 = .ok (.aload_n 0, 1) := dk_42 (dk_at dksX5_replace_6 6 rfl rfl)
theorem dX5_replace_145 : decode cX5_replace 145 = .ok (.getfield 43, 3) := dk_180 0 43 (dk_at dksX5_replace_6 7 rfl rfl)
theorem dX5_replace_148 : decode cX5_replace 148 = .ok (.getfield 85, 3) := dk_180 0 85 (dk_at dksX5_replace_6 10 rfl rfl)
theorem dX5_replace_151 : decode cX5_replace 151 = .ok (.invokevirtual 171, 3) := dk_182 0 171 (dk_at dksX5_replace_6 13 rfl rfl)
theorem dX5_replace_154 : decode cX5_replace 154 = .ok (.aload_n 0, 1) := dk_42 (dk_at dksX5_replace_6 16 rfl rfl)
theorem dX5_replace_155 : decode cX5_replace 155 = .ok (.getfield 32, 3) := dk_180 0 32 (dk_at dksX5_replace_6 17 rfl rfl)
theorem dX5_replace_158 : decode cX5_replace 158 = .ok (.iconst 0, 1) := dk_3 (dk_at dksX5_replace_6 20 rfl rfl)
theorem dX5_replace_159 : decode cX5_replace 159 = .ok (.aload_n 0, 1) := dk_42 (dk_at dksX5_replace_6 21 rfl rfl)
theorem dX5_replace_160 : decode cX5_replace 160 = .ok (.getfield 43, 3) := dk_180 0 43 (dk_at dksX5_replace_7 0 rfl rfl)
theorem dX5_replace_163 : decode cX5_replace 163 = .ok (.getfield 181, 3) := dk_180 0 181 (dk_at dksX5_replace_7 3 rfl rfl)
theorem dX5_replace_166 : decode cX5_replace 166 = .ok (.iconst 0, 1) := dk_3 (dk_at dksX5_replace_7 6 rfl rfl)
theorem dX5_replace_167 : decode cX5_replace 167 = .ok (.aload_n 0, 1) := dk_42 (dk_at dksX5_replace_7 7 rfl rfl)
theorem dX5_replace_168 : decode cX5_replace 168 = .ok (.getfield 154, 3) := dk_180 0 154 (dk_at dksX5_replace_7 8 rfl rfl)
theorem dX5_replace_171 : decode cX5_replace 171 = .ok (.invokestatic 71, 3) := dk_184 0 71 (dk_at dksX5_replace_7 11 rfl rfl)
theorem dX5_replace_174 : decode cX5_replace 174 = .ok (.aload_n 0, 1) := dk_42 (dk_at dksX5_replace_7 14 rfl rfl)
theorem dX5_replace_175 : decode cX5_replace 175 = .ok (.getfield 43, 3) := dk_180 0 43 (dk_at dksX5_replace_7 15 rfl rfl)
theorem dX5_replace_178 : decode cX5_replace 178 = .ok (.aload_n 0, 1) := dk_42 (dk_at dksX5_replace_7 18 rfl rfl)
theorem dX5_replace_179 : decode cX5_replace 179 = .ok (.getfield 154, 3) := dk_180 0 154 (dk_at dksX5_replace_7 19 rfl rfl)
theorem dX5_replace_182 : decode cX5_replace 182 = .ok (.putfield 85, 3) := dk_181 0 85 (dk_at dksX5_replace_8 0 rfl rfl)
theorem dX5_replace_185 : decode cX5_replace 185 = .ok (.iload 5, 2) := dk_21 5 (dk_at dksX5_replace_8 3 rfl rfl)
theorem dX5_replace_187 : decode cX5_replace 187 = .ok (.ireturn, 1) := dk_172 (dk_at dksX5_replace_8 5 rfl rfl)
abbrev cX5_checkForm : ByteArray := prog_16_method_20_code
def yX5_checkForm : MethodName := ⟨RX5, "checkForm", "([BI)V"⟩
def dkwX5_checkForm_2 : List UInt8 := [191, 132, 2, 1, 167, 255, 206, 177]
abbrev dktX5_checkForm_2 : List UInt8 := dkwX5_checkForm_2 ++ []
def dkwX5_checkForm_1 : List UInt8 := [28, 51, 16, 36, 159, 0, 21, 42, 28, 51, 184, 0, 164, 154, 0, 12, 187, 0, 167, 89, 28, 183, 0, 169]
abbrev dktX5_checkForm_1 : List UInt8 := dkwX5_checkForm_1 ++ dktX5_checkForm_2
def dkwX5_checkForm_0 : List UInt8 := [3, 61, 28, 27, 162, 0, 51, 42, 28, 51, 16, 36, 160, 0, 37, 132, 2, 1, 28, 27, 159, 0, 20, 42]
abbrev dktX5_checkForm_0 : List UInt8 := dkwX5_checkForm_0 ++ dktX5_checkForm_1
theorem dksX5_checkForm_0 : cX5_checkForm.data.toList.drop 0 = dktX5_checkForm_0 := by decide +kernel
theorem dksX5_checkForm_1 : cX5_checkForm.data.toList.drop 24 = dktX5_checkForm_1 := dk_seg dksX5_checkForm_0 24 rfl rfl
theorem dksX5_checkForm_2 : cX5_checkForm.data.toList.drop 48 = dktX5_checkForm_2 := dk_seg dksX5_checkForm_1 24 rfl rfl
theorem dX5_checkForm_0 : decode cX5_checkForm 0 = .ok (.iconst 0, 1) := dk_3 (dk_at dksX5_checkForm_0 0 rfl rfl)
theorem dX5_checkForm_1 : decode cX5_checkForm 1 = .ok (.istore_n 2, 1) := dk_61 (dk_at dksX5_checkForm_0 1 rfl rfl)
theorem dX5_checkForm_2 : decode cX5_checkForm 2 = .ok (.iload_n 2, 1) := dk_28 (dk_at dksX5_checkForm_0 2 rfl rfl)
theorem dX5_checkForm_3 : decode cX5_checkForm 3 = .ok (.iload_n 1, 1) := dk_27 (dk_at dksX5_checkForm_0 3 rfl rfl)
theorem dX5_checkForm_4 : decode cX5_checkForm 4 = .ok (.if_icmp .ge 51, 3) := dk_162 0 51 (dk_at dksX5_checkForm_0 4 rfl rfl)
theorem dX5_checkForm_7 : decode cX5_checkForm 7 = .ok (.aload_n 0, 1) := dk_42 (dk_at dksX5_checkForm_0 7 rfl rfl)
theorem dX5_checkForm_8 : decode cX5_checkForm 8 = .ok (.iload_n 2, 1) := dk_28 (dk_at dksX5_checkForm_0 8 rfl rfl)
theorem dX5_checkForm_9 : decode cX5_checkForm 9 = .ok (.baload, 1) := dk_51 (dk_at dksX5_checkForm_0 9 rfl rfl)
theorem dX5_checkForm_10 : decode cX5_checkForm 10 = .ok (.bipush 36, 2) := dk_16 36 (dk_at dksX5_checkForm_0 10 rfl rfl)
theorem dX5_checkForm_12 : decode cX5_checkForm 12 = .ok (.if_icmp .ne 37, 3) := dk_160 0 37 (dk_at dksX5_checkForm_0 12 rfl rfl)
theorem dX5_checkForm_15 : decode cX5_checkForm 15 = .ok (.iinc 2 1, 3) := dk_132 2 1 (dk_at dksX5_checkForm_0 15 rfl rfl)
theorem dX5_checkForm_18 : decode cX5_checkForm 18 = .ok (.iload_n 2, 1) := dk_28 (dk_at dksX5_checkForm_0 18 rfl rfl)
theorem dX5_checkForm_19 : decode cX5_checkForm 19 = .ok (.iload_n 1, 1) := dk_27 (dk_at dksX5_checkForm_0 19 rfl rfl)
theorem dX5_checkForm_20 : decode cX5_checkForm 20 = .ok (.if_icmp .eq 20, 3) := dk_159 0 20 (dk_at dksX5_checkForm_0 20 rfl rfl)
theorem dX5_checkForm_23 : decode cX5_checkForm 23 = .ok (.aload_n 0, 1) := dk_42 (dk_at dksX5_checkForm_0 23 rfl rfl)
theorem dX5_checkForm_24 : decode cX5_checkForm 24 = .ok (.iload_n 2, 1) := dk_28 (dk_at dksX5_checkForm_1 0 rfl rfl)
theorem dX5_checkForm_25 : decode cX5_checkForm 25 = .ok (.baload, 1) := dk_51 (dk_at dksX5_checkForm_1 1 rfl rfl)
theorem dX5_checkForm_26 : decode cX5_checkForm 26 = .ok (.bipush 36, 2) := dk_16 36 (dk_at dksX5_checkForm_1 2 rfl rfl)
theorem dX5_checkForm_28 : decode cX5_checkForm 28 = .ok (.if_icmp .eq 21, 3) := dk_159 0 21 (dk_at dksX5_checkForm_1 4 rfl rfl)
theorem dX5_checkForm_31 : decode cX5_checkForm 31 = .ok (.aload_n 0, 1) := dk_42 (dk_at dksX5_checkForm_1 7 rfl rfl)
theorem dX5_checkForm_32 : decode cX5_checkForm 32 = .ok (.iload_n 2, 1) := dk_28 (dk_at dksX5_checkForm_1 8 rfl rfl)
theorem dX5_checkForm_33 : decode cX5_checkForm 33 = .ok (.baload, 1) := dk_51 (dk_at dksX5_checkForm_1 9 rfl rfl)
theorem dX5_checkForm_34 : decode cX5_checkForm 34 = .ok (.invokestatic 164, 3) := dk_184 0 164 (dk_at dksX5_checkForm_1 10 rfl rfl)
theorem dX5_checkForm_37 : decode cX5_checkForm 37 = .ok (.ifCond .ne 12, 3) := dk_154 0 12 (dk_at dksX5_checkForm_1 13 rfl rfl)
theorem dX5_checkForm_40 : decode cX5_checkForm 40 = .ok (.new 167, 3) := dk_187 0 167 (dk_at dksX5_checkForm_1 16 rfl rfl)
theorem dX5_checkForm_43 : decode cX5_checkForm 43 = .ok (.dup, 1) := dk_89 (dk_at dksX5_checkForm_1 19 rfl rfl)
theorem dX5_checkForm_44 : decode cX5_checkForm 44 = .ok (.iload_n 2, 1) := dk_28 (dk_at dksX5_checkForm_1 20 rfl rfl)
theorem dX5_checkForm_45 : decode cX5_checkForm 45 = .ok (.invokespecial 169, 3) := dk_183 0 169 (dk_at dksX5_checkForm_1 21 rfl rfl)
theorem dX5_checkForm_48 : decode cX5_checkForm 48 = .ok (.athrow, 1) := dk_191 (dk_at dksX5_checkForm_2 0 rfl rfl)
theorem dX5_checkForm_49 : decode cX5_checkForm 49 = .ok (.iinc 2 1, 3) := dk_132 2 1 (dk_at dksX5_checkForm_2 1 rfl rfl)
theorem dX5_checkForm_52 : decode cX5_checkForm 52 = .ok (.goto (-50), 3) := dk_167 255 206 (dk_at dksX5_checkForm_2 4 rfl rfl)
theorem dX5_checkForm_55 : decode cX5_checkForm 55 = .ok (.return_, 1) := dk_177 (dk_at dksX5_checkForm_2 7 rfl rfl)
abbrev cX5_makeAll : ByteArray := prog_16_method_19_code
def yX5_makeAll : MethodName := ⟨RX5, "makeAll", "(II)V"⟩
def dkwX5_makeAll_1 : List UInt8 := [167, 255, 236, 177]
abbrev dktX5_makeAll_1 : List UInt8 := dkwX5_makeAll_1 ++ []
def dkwX5_makeAll_0 : List UInt8 := [27, 62, 29, 28, 162, 0, 21, 42, 42, 180, 0, 43, 29, 182, 0, 90, 182, 0, 161, 132, 3, 1]
abbrev dktX5_makeAll_0 : List UInt8 := dkwX5_makeAll_0 ++ dktX5_makeAll_1
theorem dksX5_makeAll_0 : cX5_makeAll.data.toList.drop 0 = dktX5_makeAll_0 := by decide +kernel
theorem dksX5_makeAll_1 : cX5_makeAll.data.toList.drop 22 = dktX5_makeAll_1 := dk_seg dksX5_makeAll_0 22 rfl rfl
theorem dX5_makeAll_0 : decode cX5_makeAll 0 = .ok (.iload_n 1, 1) := dk_27 (dk_at dksX5_makeAll_0 0 rfl rfl)
theorem dX5_makeAll_1 : decode cX5_makeAll 1 = .ok (.istore_n 3, 1) := dk_62 (dk_at dksX5_makeAll_0 1 rfl rfl)
theorem dX5_makeAll_2 : decode cX5_makeAll 2 = .ok (.iload_n 3, 1) := dk_29 (dk_at dksX5_makeAll_0 2 rfl rfl)
theorem dX5_makeAll_3 : decode cX5_makeAll 3 = .ok (.iload_n 2, 1) := dk_28 (dk_at dksX5_makeAll_0 3 rfl rfl)
theorem dX5_makeAll_4 : decode cX5_makeAll 4 = .ok (.if_icmp .ge 21, 3) := dk_162 0 21 (dk_at dksX5_makeAll_0 4 rfl rfl)
theorem dX5_makeAll_7 : decode cX5_makeAll 7 = .ok (.aload_n 0, 1) := dk_42 (dk_at dksX5_makeAll_0 7 rfl rfl)
theorem dX5_makeAll_8 : decode cX5_makeAll 8 = .ok (.aload_n 0, 1) := dk_42 (dk_at dksX5_makeAll_0 8 rfl rfl)
theorem dX5_makeAll_9 : decode cX5_makeAll 9 = .ok (.getfield 43, 3) := dk_180 0 43 (dk_at dksX5_makeAll_0 9 rfl rfl)
theorem dX5_makeAll_12 : decode cX5_makeAll 12 = .ok (.iload_n 3, 1) := dk_29 (dk_at dksX5_makeAll_0 12 rfl rfl)
theorem dX5_makeAll_13 : decode cX5_makeAll 13 = .ok (.invokevirtual 90, 3) := dk_182 0 90 (dk_at dksX5_makeAll_0 13 rfl rfl)
theorem dX5_makeAll_16 : decode cX5_makeAll 16 = .ok (.invokevirtual 161, 3) := dk_182 0 161 (dk_at dksX5_makeAll_0 16 rfl rfl)
theorem dX5_makeAll_19 : decode cX5_makeAll 19 = .ok (.iinc 3 1, 3) := dk_132 3 1 (dk_at dksX5_makeAll_0 19 rfl rfl)
theorem dX5_makeAll_22 : decode cX5_makeAll 22 = .ok (.goto (-20), 3) := dk_167 255 236 (dk_at dksX5_makeAll_1 0 rfl rfl)
theorem dX5_makeAll_25 : decode cX5_makeAll 25 = .ok (.return_, 1) := dk_177 (dk_at dksX5_makeAll_1 3 rfl rfl)
abbrev cX5_make : ByteArray := prog_16_method_18_code
def yX5_make : MethodName := ⟨RX5, "make", "(I)V"⟩
def dkwX5_make_1 : List UInt8 := [180, 0, 154, 27, 145, 84, 42, 89, 180, 0, 154, 4, 96, 181, 0, 154, 177]
abbrev dktX5_make_1 : List UInt8 := dkwX5_make_1 ++ []
def dkwX5_make_0 : List UInt8 := [42, 180, 0, 154, 17, 15, 160, 162, 0, 7, 4, 167, 0, 4, 3, 184, 0, 157, 42, 180, 0, 32, 42]
abbrev dktX5_make_0 : List UInt8 := dkwX5_make_0 ++ dktX5_make_1
theorem dksX5_make_0 : cX5_make.data.toList.drop 0 = dktX5_make_0 := by decide +kernel
theorem dksX5_make_1 : cX5_make.data.toList.drop 23 = dktX5_make_1 := dk_seg dksX5_make_0 23 rfl rfl
theorem dX5_make_0 : decode cX5_make 0 = .ok (.aload_n 0, 1) := dk_42 (dk_at dksX5_make_0 0 rfl rfl)
theorem dX5_make_1 : decode cX5_make 1 = .ok (.getfield 154, 3) := dk_180 0 154 (dk_at dksX5_make_0 1 rfl rfl)
theorem dX5_make_4 : decode cX5_make 4 = .ok (.sipush 4000, 3) := dk_17 15 160 (dk_at dksX5_make_0 4 rfl rfl)
theorem dX5_make_7 : decode cX5_make 7 = .ok (.if_icmp .ge 7, 3) := dk_162 0 7 (dk_at dksX5_make_0 7 rfl rfl)
theorem dX5_make_10 : decode cX5_make 10 = .ok (.iconst 1, 1) := dk_4 (dk_at dksX5_make_0 10 rfl rfl)
theorem dX5_make_11 : decode cX5_make 11 = .ok (.goto 4, 3) := dk_167 0 4 (dk_at dksX5_make_0 11 rfl rfl)
theorem dX5_make_14 : decode cX5_make 14 = .ok (.iconst 0, 1) := dk_3 (dk_at dksX5_make_0 14 rfl rfl)
theorem dX5_make_15 : decode cX5_make 15 = .ok (.invokestatic 157, 3) := dk_184 0 157 (dk_at dksX5_make_0 15 rfl rfl)
theorem dX5_make_18 : decode cX5_make 18 = .ok (.aload_n 0, 1) := dk_42 (dk_at dksX5_make_0 18 rfl rfl)
theorem dX5_make_19 : decode cX5_make 19 = .ok (.getfield 32, 3) := dk_180 0 32 (dk_at dksX5_make_0 19 rfl rfl)
theorem dX5_make_22 : decode cX5_make 22 = .ok (.aload_n 0, 1) := dk_42 (dk_at dksX5_make_0 22 rfl rfl)
theorem dX5_make_23 : decode cX5_make 23 = .ok (.getfield 154, 3) := dk_180 0 154 (dk_at dksX5_make_1 0 rfl rfl)
theorem dX5_make_26 : decode cX5_make 26 = .ok (.iload_n 1, 1) := dk_27 (dk_at dksX5_make_1 3 rfl rfl)
theorem dX5_make_27 : decode cX5_make 27 = .ok (.i2b, 1) := dk_145 (dk_at dksX5_make_1 4 rfl rfl)
theorem dX5_make_28 : decode cX5_make 28 = .ok (.bastore, 1) := dk_84 (dk_at dksX5_make_1 5 rfl rfl)
theorem dX5_make_29 : decode cX5_make 29 = .ok (.aload_n 0, 1) := dk_42 (dk_at dksX5_make_1 6 rfl rfl)
theorem dX5_make_30 : decode cX5_make 30 = .ok (.dup, 1) := dk_89 (dk_at dksX5_make_1 7 rfl rfl)
theorem dX5_make_31 : decode cX5_make 31 = .ok (.getfield 154, 3) := dk_180 0 154 (dk_at dksX5_make_1 8 rfl rfl)
theorem dX5_make_34 : decode cX5_make 34 = .ok (.iconst 1, 1) := dk_4 (dk_at dksX5_make_1 11 rfl rfl)
theorem dX5_make_35 : decode cX5_make 35 = .ok (.iadd, 1) := dk_96 (dk_at dksX5_make_1 12 rfl rfl)
theorem dX5_make_36 : decode cX5_make 36 = .ok (.putfield 154, 3) := dk_181 0 154 (dk_at dksX5_make_1 13 rfl rfl)
theorem dX5_make_39 : decode cX5_make 39 = .ok (.return_, 1) := dk_177 (dk_at dksX5_make_1 16 rfl rfl)
abbrev cX5_fill : ByteArray := prog_16_method_21_code
def yX5_fill : MethodName := ⟨RX5, "fill", "([BI)V"⟩
def dkwX5_fill_5 : List UInt8 := [177]
abbrev dktX5_fill_5 : List UInt8 := dkwX5_fill_5 ++ []
def dkwX5_fill_4 : List UInt8 := [21, 5, 104, 46, 42, 180, 0, 18, 5, 21, 5, 104, 4, 96, 46, 182, 0, 171, 132, 3, 1, 167, 255, 145]
abbrev dktX5_fill_4 : List UInt8 := dkwX5_fill_4 ++ dktX5_fill_5
def dkwX5_fill_3 : List UInt8 := [155, 0, 41, 42, 180, 0, 18, 5, 21, 5, 104, 4, 96, 46, 155, 0, 27, 42, 42, 180, 0, 18, 5]
abbrev dktX5_fill_3 : List UInt8 := dkwX5_fill_3 ++ dktX5_fill_4
def dkwX5_fill_2 : List UInt8 := [16, 36, 160, 0, 12, 42, 16, 36, 182, 0, 161, 167, 0, 53, 42, 180, 0, 18, 5, 21, 5, 104, 46]
abbrev dktX5_fill_2 : List UInt8 := dkwX5_fill_2 ++ dktX5_fill_3
def dkwX5_fill_1 : List UInt8 := [159, 0, 12, 42, 21, 4, 182, 0, 161, 167, 0, 81, 43, 29, 51, 16, 48, 100, 54, 5, 43, 29, 51]
abbrev dktX5_fill_1 : List UInt8 := dkwX5_fill_1 ++ dktX5_fill_2
def dkwX5_fill_0 : List UInt8 := [3, 62, 29, 28, 162, 0, 112, 43, 29, 51, 17, 0, 255, 126, 54, 4, 132, 3, 1, 21, 4, 16, 36]
abbrev dktX5_fill_0 : List UInt8 := dkwX5_fill_0 ++ dktX5_fill_1
theorem dksX5_fill_0 : cX5_fill.data.toList.drop 0 = dktX5_fill_0 := by decide +kernel
theorem dksX5_fill_1 : cX5_fill.data.toList.drop 23 = dktX5_fill_1 := dk_seg dksX5_fill_0 23 rfl rfl
theorem dksX5_fill_2 : cX5_fill.data.toList.drop 46 = dktX5_fill_2 := dk_seg dksX5_fill_1 23 rfl rfl
theorem dksX5_fill_3 : cX5_fill.data.toList.drop 69 = dktX5_fill_3 := dk_seg dksX5_fill_2 23 rfl rfl
theorem dksX5_fill_4 : cX5_fill.data.toList.drop 92 = dktX5_fill_4 := dk_seg dksX5_fill_3 23 rfl rfl
theorem dksX5_fill_5 : cX5_fill.data.toList.drop 116 = dktX5_fill_5 := dk_seg dksX5_fill_4 24 rfl rfl
theorem dX5_fill_0 : decode cX5_fill 0 = .ok (.iconst 0, 1) := dk_3 (dk_at dksX5_fill_0 0 rfl rfl)
theorem dX5_fill_1 : decode cX5_fill 1 = .ok (.istore_n 3, 1) := dk_62 (dk_at dksX5_fill_0 1 rfl rfl)
theorem dX5_fill_2 : decode cX5_fill 2 = .ok (.iload_n 3, 1) := dk_29 (dk_at dksX5_fill_0 2 rfl rfl)
theorem dX5_fill_3 : decode cX5_fill 3 = .ok (.iload_n 2, 1) := dk_28 (dk_at dksX5_fill_0 3 rfl rfl)
theorem dX5_fill_4 : decode cX5_fill 4 = .ok (.if_icmp .ge 112, 3) := dk_162 0 112 (dk_at dksX5_fill_0 4 rfl rfl)
theorem dX5_fill_7 : decode cX5_fill 7 = .ok (.aload_n 1, 1) := dk_43 (dk_at dksX5_fill_0 7 rfl rfl)
theorem dX5_fill_8 : decode cX5_fill 8 = .ok (.iload_n 3, 1) := dk_29 (dk_at dksX5_fill_0 8 rfl rfl)
theorem dX5_fill_9 : decode cX5_fill 9 = .ok (.baload, 1) := dk_51 (dk_at dksX5_fill_0 9 rfl rfl)
theorem dX5_fill_10 : decode cX5_fill 10 = .ok (.sipush 255, 3) := dk_17 0 255 (dk_at dksX5_fill_0 10 rfl rfl)
theorem dX5_fill_13 : decode cX5_fill 13 = .ok (.iand, 1) := dk_126 (dk_at dksX5_fill_0 13 rfl rfl)
theorem dX5_fill_14 : decode cX5_fill 14 = .ok (.istore 4, 2) := dk_54 4 (dk_at dksX5_fill_0 14 rfl rfl)
theorem dX5_fill_16 : decode cX5_fill 16 = .ok (.iinc 3 1, 3) := dk_132 3 1 (dk_at dksX5_fill_0 16 rfl rfl)
theorem dX5_fill_19 : decode cX5_fill 19 = .ok (.iload 4, 2) := dk_21 4 (dk_at dksX5_fill_0 19 rfl rfl)
theorem dX5_fill_21 : decode cX5_fill 21 = .ok (.bipush 36, 2) := dk_16 36 (dk_at dksX5_fill_0 21 rfl rfl)
theorem dX5_fill_23 : decode cX5_fill 23 = .ok (.if_icmp .eq 12, 3) := dk_159 0 12 (dk_at dksX5_fill_1 0 rfl rfl)
theorem dX5_fill_26 : decode cX5_fill 26 = .ok (.aload_n 0, 1) := dk_42 (dk_at dksX5_fill_1 3 rfl rfl)
theorem dX5_fill_27 : decode cX5_fill 27 = .ok (.iload 4, 2) := dk_21 4 (dk_at dksX5_fill_1 4 rfl rfl)
theorem dX5_fill_29 : decode cX5_fill 29 = .ok (.invokevirtual 161, 3) := dk_182 0 161 (dk_at dksX5_fill_1 6 rfl rfl)
theorem dX5_fill_32 : decode cX5_fill 32 = .ok (.goto 81, 3) := dk_167 0 81 (dk_at dksX5_fill_1 9 rfl rfl)
theorem dX5_fill_35 : decode cX5_fill 35 = .ok (.aload_n 1, 1) := dk_43 (dk_at dksX5_fill_1 12 rfl rfl)
theorem dX5_fill_36 : decode cX5_fill 36 = .ok (.iload_n 3, 1) := dk_29 (dk_at dksX5_fill_1 13 rfl rfl)
theorem dX5_fill_37 : decode cX5_fill 37 = .ok (.baload, 1) := dk_51 (dk_at dksX5_fill_1 14 rfl rfl)
theorem dX5_fill_38 : decode cX5_fill 38 = .ok (.bipush 48, 2) := dk_16 48 (dk_at dksX5_fill_1 15 rfl rfl)
theorem dX5_fill_40 : decode cX5_fill 40 = .ok (.isub, 1) := dk_100 (dk_at dksX5_fill_1 17 rfl rfl)
theorem dX5_fill_41 : decode cX5_fill 41 = .ok (.istore 5, 2) := dk_54 5 (dk_at dksX5_fill_1 18 rfl rfl)
theorem dX5_fill_43 : decode cX5_fill 43 = .ok (.aload_n 1, 1) := dk_43 (dk_at dksX5_fill_1 20 rfl rfl)
theorem dX5_fill_44 : decode cX5_fill 44 = .ok (.iload_n 3, 1) := dk_29 (dk_at dksX5_fill_1 21 rfl rfl)
theorem dX5_fill_45 : decode cX5_fill 45 = .ok (.baload, 1) := dk_51 (dk_at dksX5_fill_1 22 rfl rfl)
theorem dX5_fill_46 : decode cX5_fill 46 = .ok (.bipush 36, 2) := dk_16 36 (dk_at dksX5_fill_2 0 rfl rfl)
theorem dX5_fill_48 : decode cX5_fill 48 = .ok (.if_icmp .ne 12, 3) := dk_160 0 12 (dk_at dksX5_fill_2 2 rfl rfl)
theorem dX5_fill_51 : decode cX5_fill 51 = .ok (.aload_n 0, 1) := dk_42 (dk_at dksX5_fill_2 5 rfl rfl)
theorem dX5_fill_52 : decode cX5_fill 52 = .ok (.bipush 36, 2) := dk_16 36 (dk_at dksX5_fill_2 6 rfl rfl)
theorem dX5_fill_54 : decode cX5_fill 54 = .ok (.invokevirtual 161, 3) := dk_182 0 161 (dk_at dksX5_fill_2 8 rfl rfl)
theorem dX5_fill_57 : decode cX5_fill 57 = .ok (.goto 53, 3) := dk_167 0 53 (dk_at dksX5_fill_2 11 rfl rfl)
theorem dX5_fill_60 : decode cX5_fill 60 = .ok (.aload_n 0, 1) := dk_42 (dk_at dksX5_fill_2 14 rfl rfl)
theorem dX5_fill_61 : decode cX5_fill 61 = .ok (.getfield 18, 3) := dk_180 0 18 (dk_at dksX5_fill_2 15 rfl rfl)
theorem dX5_fill_64 : decode cX5_fill 64 = .ok (.iconst 2, 1) := dk_5 (dk_at dksX5_fill_2 18 rfl rfl)
theorem dX5_fill_65 : decode cX5_fill 65 = .ok (.iload 5, 2) := dk_21 5 (dk_at dksX5_fill_2 19 rfl rfl)
theorem dX5_fill_67 : decode cX5_fill 67 = .ok (.imul, 1) := dk_104 (dk_at dksX5_fill_2 21 rfl rfl)
theorem dX5_fill_68 : decode cX5_fill 68 = .ok (.iaload, 1) := dk_46 (dk_at dksX5_fill_2 22 rfl rfl)
theorem dX5_fill_69 : decode cX5_fill 69 = .ok (.ifCond .lt 41, 3) := dk_155 0 41 (dk_at dksX5_fill_3 0 rfl rfl)
theorem dX5_fill_72 : decode cX5_fill 72 = .ok (.aload_n 0, 1) := dk_42 (dk_at dksX5_fill_3 3 rfl rfl)
theorem dX5_fill_73 : decode cX5_fill 73 = .ok (.getfield 18, 3) := dk_180 0 18 (dk_at dksX5_fill_3 4 rfl rfl)
theorem dX5_fill_76 : decode cX5_fill 76 = .ok (.iconst 2, 1) := dk_5 (dk_at dksX5_fill_3 7 rfl rfl)
theorem dX5_fill_77 : decode cX5_fill 77 = .ok (.iload 5, 2) := dk_21 5 (dk_at dksX5_fill_3 8 rfl rfl)
theorem dX5_fill_79 : decode cX5_fill 79 = .ok (.imul, 1) := dk_104 (dk_at dksX5_fill_3 10 rfl rfl)
theorem dX5_fill_80 : decode cX5_fill 80 = .ok (.iconst 1, 1) := dk_4 (dk_at dksX5_fill_3 11 rfl rfl)
theorem dX5_fill_81 : decode cX5_fill 81 = .ok (.iadd, 1) := dk_96 (dk_at dksX5_fill_3 12 rfl rfl)
theorem dX5_fill_82 : decode cX5_fill 82 = .ok (.iaload, 1) := dk_46 (dk_at dksX5_fill_3 13 rfl rfl)
theorem dX5_fill_83 : decode cX5_fill 83 = .ok (.ifCond .lt 27, 3) := dk_155 0 27 (dk_at dksX5_fill_3 14 rfl rfl)
theorem dX5_fill_86 : decode cX5_fill 86 = .ok (.aload_n 0, 1) := dk_42 (dk_at dksX5_fill_3 17 rfl rfl)
theorem dX5_fill_87 : decode cX5_fill 87 = .ok (.aload_n 0, 1) := dk_42 (dk_at dksX5_fill_3 18 rfl rfl)
theorem dX5_fill_88 : decode cX5_fill 88 = .ok (.getfield 18, 3) := dk_180 0 18 (dk_at dksX5_fill_3 19 rfl rfl)
theorem dX5_fill_91 : decode cX5_fill 91 = .ok (.iconst 2, 1) := dk_5 (dk_at dksX5_fill_3 22 rfl rfl)
theorem dX5_fill_92 : decode cX5_fill 92 = .ok (.iload 5, 2) := dk_21 5 (dk_at dksX5_fill_4 0 rfl rfl)
theorem dX5_fill_94 : decode cX5_fill 94 = .ok (.imul, 1) := dk_104 (dk_at dksX5_fill_4 2 rfl rfl)
theorem dX5_fill_95 : decode cX5_fill 95 = .ok (.iaload, 1) := dk_46 (dk_at dksX5_fill_4 3 rfl rfl)
theorem dX5_fill_96 : decode cX5_fill 96 = .ok (.aload_n 0, 1) := dk_42 (dk_at dksX5_fill_4 4 rfl rfl)
theorem dX5_fill_97 : decode cX5_fill 97 = .ok (.getfield 18, 3) := dk_180 0 18 (dk_at dksX5_fill_4 5 rfl rfl)
theorem dX5_fill_100 : decode cX5_fill 100 = .ok (.iconst 2, 1) := dk_5 (dk_at dksX5_fill_4 8 rfl rfl)
theorem dX5_fill_101 : decode cX5_fill 101 = .ok (.iload 5, 2) := dk_21 5 (dk_at dksX5_fill_4 9 rfl rfl)
theorem dX5_fill_103 : decode cX5_fill 103 = .ok (.imul, 1) := dk_104 (dk_at dksX5_fill_4 11 rfl rfl)
theorem dX5_fill_104 : decode cX5_fill 104 = .ok (.iconst 1, 1) := dk_4 (dk_at dksX5_fill_4 12 rfl rfl)
theorem dX5_fill_105 : decode cX5_fill 105 = .ok (.iadd, 1) := dk_96 (dk_at dksX5_fill_4 13 rfl rfl)
theorem dX5_fill_106 : decode cX5_fill 106 = .ok (.iaload, 1) := dk_46 (dk_at dksX5_fill_4 14 rfl rfl)
theorem dX5_fill_107 : decode cX5_fill 107 = .ok (.invokevirtual 171, 3) := dk_182 0 171 (dk_at dksX5_fill_4 15 rfl rfl)
theorem dX5_fill_110 : decode cX5_fill 110 = .ok (.iinc 3 1, 3) := dk_132 3 1 (dk_at dksX5_fill_4 18 rfl rfl)
theorem dX5_fill_113 : decode cX5_fill 113 = .ok (.goto (-111), 3) := dk_167 255 145 (dk_at dksX5_fill_4 21 rfl rfl)
theorem dX5_fill_116 : decode cX5_fill 116 = .ok (.return_, 1) := dk_177 (dk_at dksX5_fill_5 0 rfl rfl)
theorem q512 : (Jvm.Cond.initialized "LibraryDesk$Matche\x72") ∈ lw_all := lw_g (lw_at lw_m1 5 rfl) rfl
theorem q665 : (Jvm.Cond.instantiable "LibraryDesk$Matche\x72" (11 : Nat)) ∈ lw_all := lw_g (lw_at lw_m1 158 rfl) rfl
theorem q667 : (Jvm.Cond.instanceMethod ({ cls := "LibraryDesk$Matche\x72", name := "<init>", desc := "()V" } : Jvm.MethodName)) ∈ lw_all := lw_g (lw_at lw_m1 160 rfl) rfl
theorem q668 : (Jvm.Cond.code ({ cls := "LibraryDesk$Matche\x72", name := "<init>", desc := "()V" } : Jvm.MethodName) prog_16_method_1_code (1 : Nat) (Option.none : Option Jvm.ClassFile.FieldType)) ∈ lw_all := lw_g (lw_at lw_m1 161 rfl) rfl
theorem q669 : (Jvm.Cond.methodLink "LibraryDesk$Matche\x72" (5 : Nat) ({ cls := "java/lang/Object", name := "<init>", desc := "()V" } : Jvm.MethodName)) ∈ lw_all := lw_g (lw_at lw_m1 162 rfl) rfl
theorem q670 : (Jvm.Cond.constant "LibraryDesk$Matche\x72" (13 : Nat) (249600 : Int32)) ∈ lw_all := lw_g (lw_at lw_m1 163 rfl) rfl
theorem q671 : (Jvm.Cond.methodLink "LibraryDesk$Matche\x72" (36 : Nat) ({ cls := "LibraryDesk$Matche\x72", name := "forget", desc := "()V" } : Jvm.MethodName)) ∈ lw_all := lw_g (lw_at lw_m1 164 rfl) rfl
theorem q672 : (Jvm.Cond.privateMethod ({ cls := "LibraryDesk$Matche\x72", name := "forget", desc := "()V" } : Jvm.MethodName)) ∈ lw_tbl := lw_at lw_m1 165 rfl
theorem q673 : (Jvm.Cond.instanceMethod ({ cls := "LibraryDesk$Matche\x72", name := "forget", desc := "()V" } : Jvm.MethodName)) ∈ lw_all := lw_g (lw_at lw_m1 166 rfl) rfl
theorem q674 : (Jvm.Cond.code ({ cls := "LibraryDesk$Matche\x72", name := "forget", desc := "()V" } : Jvm.MethodName) prog_16_method_2_code (2 : Nat) (Option.none : Option Jvm.ClassFile.FieldType)) ∈ lw_all := lw_g (lw_at lw_m1 167 rfl) rfl
theorem q675 : (Jvm.Cond.fieldLink "LibraryDesk$Matche\x72" (14 : Nat) "LibraryDesk$Matche\x72" "seen" "[J") ∈ lw_all := lw_g (lw_at lw_m1 168 rfl) rfl
theorem q676 : (Jvm.Cond.fieldLink "LibraryDesk$Matche\x72" (18 : Nat) "LibraryDesk$Matche\x72" "saved" "[I") ∈ lw_all := lw_g (lw_at lw_m1 169 rfl) rfl
theorem q677 : (Jvm.Cond.fieldLink "LibraryDesk$Matche\x72" (22 : Nat) "LibraryDesk$Matche\x72" "kept" "[I") ∈ lw_all := lw_g (lw_at lw_m1 170 rfl) rfl
theorem q679 : (Jvm.Cond.fieldLink "LibraryDesk$Matche\x72" (25 : Nat) "LibraryDesk$Matche\x72" "stack" "[J") ∈ lw_all := lw_g (lw_at lw_m1 172 rfl) rfl
theorem q680 : (Jvm.Cond.fieldLink "LibraryDesk$Matche\x72" (65 : Nat) "LibraryDesk$Matche\x72" "top" "I") ∈ lw_all := lw_g (lw_at lw_m1 173 rfl) rfl
theorem q681 : (Jvm.Cond.fieldLink "LibraryDesk$Matche\x72" (39 : Nat) "LibraryDesk$Matche\x72" "p" "LLibraryDesk$PatternThing;") ∈ lw_all := lw_g (lw_at lw_m1 174 rfl) rfl
theorem q682 : (Jvm.Cond.fieldLink "LibraryDesk$Matche\x72" (43 : Nat) "LibraryDesk$Matche\x72" "t" "LLibraryDesk$TextThing;") ∈ lw_all := lw_g (lw_at lw_m1 175 rfl) rfl
theorem q683 : (Jvm.Cond.fieldLink "LibraryDesk$Matche\x72" (47 : Nat) "LibraryDesk$Matche\x72" "whole" "Z") ∈ lw_all := lw_g (lw_at lw_m1 176 rfl) rfl
theorem q684 : (Jvm.Cond.fieldLink "LibraryDesk$Matche\x72" (28 : Nat) "LibraryDesk$Matche\x72" "isKept" "[Z") ∈ lw_all := lw_g (lw_at lw_m1 177 rfl) rfl
theorem q685 : (Jvm.Cond.fieldLink "LibraryDesk$Matche\x72" (32 : Nat) "LibraryDesk$Matche\x72" "made" "[B") ∈ lw_all := lw_g (lw_at lw_m1 178 rfl) rfl
theorem q686 : (Jvm.Cond.fieldLink "LibraryDesk$Matche\x72" (154 : Nat) "LibraryDesk$Matche\x72" "madeSize" "I") ∈ lw_all := lw_g (lw_at lw_m1 179 rfl) rfl
theorem q687 : (Jvm.Cond.laysFinal "LibraryDesk$Matche\x72" "LibraryDesk$Matche\x72" "seen" "[J") ∈ lw_all := lw_g (lw_at lw_m1 180 rfl) rfl
theorem q688 : (Jvm.Cond.soleField "LibraryDesk$Matche\x72" "seen") ∈ lw_all := lw_g (lw_at lw_m1 181 rfl) rfl
theorem q689 : (Jvm.Cond.laysFinal "LibraryDesk$Matche\x72" "LibraryDesk$Matche\x72" "saved" "[I") ∈ lw_all := lw_g (lw_at lw_m1 182 rfl) rfl
theorem q690 : (Jvm.Cond.soleField "LibraryDesk$Matche\x72" "saved") ∈ lw_all := lw_g (lw_at lw_m1 183 rfl) rfl
theorem q691 : (Jvm.Cond.laysFinal "LibraryDesk$Matche\x72" "LibraryDesk$Matche\x72" "kept" "[I") ∈ lw_all := lw_g (lw_at lw_m1 184 rfl) rfl
theorem q692 : (Jvm.Cond.soleField "LibraryDesk$Matche\x72" "kept") ∈ lw_all := lw_g (lw_at lw_m1 185 rfl) rfl
theorem q693 : (Jvm.Cond.lays "LibraryDesk$Matche\x72" "LibraryDesk$Matche\x72" "stack" "[J") ∈ lw_all := lw_g (lw_at lw_m1 186 rfl) rfl
theorem q694 : (Jvm.Cond.soleField "LibraryDesk$Matche\x72" "stack") ∈ lw_all := lw_g (lw_at lw_m1 187 rfl) rfl
theorem q695 : (Jvm.Cond.lays "LibraryDesk$Matche\x72" "LibraryDesk$Matche\x72" "top" "I") ∈ lw_all := lw_g (lw_at lw_m1 188 rfl) rfl
theorem q696 : (Jvm.Cond.soleField "LibraryDesk$Matche\x72" "top") ∈ lw_all := lw_g (lw_at lw_m1 189 rfl) rfl
theorem q697 : (Jvm.Cond.lays "LibraryDesk$Matche\x72" "LibraryDesk$Matche\x72" "p" "LLibraryDesk$PatternThing;") ∈ lw_all := lw_g (lw_at lw_m1 190 rfl) rfl
theorem q698 : (Jvm.Cond.soleField "LibraryDesk$Matche\x72" "p") ∈ lw_all := lw_g (lw_at lw_m1 191 rfl) rfl
theorem q699 : (Jvm.Cond.lays "LibraryDesk$Matche\x72" "LibraryDesk$Matche\x72" "t" "LLibraryDesk$TextThing;") ∈ lw_all := lw_g (lw_at lw_m1 192 rfl) rfl
theorem q700 : (Jvm.Cond.soleField "LibraryDesk$Matche\x72" "t") ∈ lw_all := lw_g (lw_at lw_m1 193 rfl) rfl
theorem q701 : (Jvm.Cond.lays "LibraryDesk$Matche\x72" "LibraryDesk$Matche\x72" "whole" "Z") ∈ lw_all := lw_g (lw_at lw_m1 194 rfl) rfl
theorem q702 : (Jvm.Cond.soleField "LibraryDesk$Matche\x72" "whole") ∈ lw_all := lw_g (lw_at lw_m1 195 rfl) rfl
theorem q703 : (Jvm.Cond.laysFinal "LibraryDesk$Matche\x72" "LibraryDesk$Matche\x72" "isKept" "[Z") ∈ lw_all := lw_g (lw_at lw_m1 196 rfl) rfl
theorem q704 : (Jvm.Cond.soleField "LibraryDesk$Matche\x72" "isKept") ∈ lw_all := lw_g (lw_at lw_m1 197 rfl) rfl
theorem q705 : (Jvm.Cond.laysFinal "LibraryDesk$Matche\x72" "LibraryDesk$Matche\x72" "made" "[B") ∈ lw_all := lw_g (lw_at lw_m1 198 rfl) rfl
theorem q706 : (Jvm.Cond.soleField "LibraryDesk$Matche\x72" "made") ∈ lw_all := lw_g (lw_at lw_m1 199 rfl) rfl
theorem q707 : (Jvm.Cond.lays "LibraryDesk$Matche\x72" "LibraryDesk$Matche\x72" "madeSize" "I") ∈ lw_all := lw_g (lw_at lw_m1 200 rfl) rfl
theorem q708 : (Jvm.Cond.soleField "LibraryDesk$Matche\x72" "madeSize") ∈ lw_all := lw_g (lw_at lw_m1 201 rfl) rfl
theorem q709 : (Jvm.Cond.superclass "LibraryDesk$Matche\x72" "java/lang/Object") ∈ lw_all := lw_g (lw_at lw_m1 202 rfl) rfl
theorem q1629 : (Jvm.Cond.fieldLinkNest "LibraryDesk$Matche\x72" (181 : Nat) "LibraryDesk$TextThing" "row" "[B" "LibraryDesk") ∈ lw_tbl := lw_at lw_m5 162 rfl
theorem q1631 : (Jvm.Cond.fieldLinkNest "LibraryDesk$Matche\x72" (85 : Nat) "LibraryDesk$TextThing" "size" "I" "LibraryDesk") ∈ lw_tbl := lw_at lw_m5 164 rfl
theorem q1648 : (Jvm.Cond.fieldLinkNest "LibraryDesk$Matche\x72" (108 : Nat) "LibraryDesk$PatternThing" "op" "[I" "LibraryDesk") ∈ lw_tbl := lw_at lw_m5 181 rfl
theorem q1652 : (Jvm.Cond.fieldLinkNest "LibraryDesk$Matche\x72" (117 : Nat) "LibraryDesk$PatternThing" "a" "[I" "LibraryDesk") ∈ lw_tbl := lw_at lw_m5 185 rfl
theorem q1655 : (Jvm.Cond.fieldLinkNest "LibraryDesk$Matche\x72" (111 : Nat) "LibraryDesk$PatternThing" "b" "[I" "LibraryDesk") ∈ lw_tbl := lw_at lw_m5 188 rfl
theorem q1657 : (Jvm.Cond.fieldLinkNest "LibraryDesk$Matche\x72" (59 : Nat) "LibraryDesk$PatternThing" "loopOf" "[I" "LibraryDesk") ∈ lw_tbl := lw_at lw_m5 190 rfl
theorem q1659 : (Jvm.Cond.fieldLinkNest "LibraryDesk$Matche\x72" (62 : Nat) "LibraryDesk$PatternThing" "oute\x72" "[I" "LibraryDesk") ∈ lw_tbl := lw_at lw_m5 192 rfl
theorem q1665 : (Jvm.Cond.fieldLinkNest "LibraryDesk$Matche\x72" (51 : Nat) "LibraryDesk$PatternThing" "many" "I" "LibraryDesk") ∈ lw_tbl := lw_at lw_m5 198 rfl
theorem q3329 : (Jvm.Cond.privateMethod ({ cls := "LibraryDesk$Matche\x72", name := "match", desc := "(LLibraryDesk$PatternThing;LLibraryDesk$TextThing;II)I" } : Jvm.MethodName)) ∈ lw_tbl := lw_at lw_m12 182 rfl
theorem q3330 : (Jvm.Cond.instanceMethod ({ cls := "LibraryDesk$Matche\x72", name := "match", desc := "(LLibraryDesk$PatternThing;LLibraryDesk$TextThing;II)I" } : Jvm.MethodName)) ∈ lw_all := lw_g (lw_at lw_m12 183 rfl) rfl
theorem q3331 : (Jvm.Cond.code ({ cls := "LibraryDesk$Matche\x72", name := "match", desc := "(LLibraryDesk$PatternThing;LLibraryDesk$TextThing;II)I" } : Jvm.MethodName) prog_16_method_17_code (8 : Nat) (Option.some Jvm.ClassFile.FieldType.int)) ∈ lw_all := lw_g (lw_at lw_m12 184 rfl) rfl
theorem q3332 : (Jvm.Cond.methodLink "LibraryDesk$Matche\x72" (144 : Nat) ({ cls := "LibraryDesk$Matche\x72", name := "begin", desc := "(LLibraryDesk$PatternThing;LLibraryDesk$TextThing;Z)V" } : Jvm.MethodName)) ∈ lw_all := lw_g (lw_at lw_m12 185 rfl) rfl
theorem q3333 : (Jvm.Cond.privateMethod ({ cls := "LibraryDesk$Matche\x72", name := "begin", desc := "(LLibraryDesk$PatternThing;LLibraryDesk$TextThing;Z)V" } : Jvm.MethodName)) ∈ lw_tbl := lw_at lw_m12 186 rfl
theorem q3334 : (Jvm.Cond.instanceMethod ({ cls := "LibraryDesk$Matche\x72", name := "begin", desc := "(LLibraryDesk$PatternThing;LLibraryDesk$TextThing;Z)V" } : Jvm.MethodName)) ∈ lw_all := lw_g (lw_at lw_m12 187 rfl) rfl
theorem q3335 : (Jvm.Cond.code ({ cls := "LibraryDesk$Matche\x72", name := "begin", desc := "(LLibraryDesk$PatternThing;LLibraryDesk$TextThing;Z)V" } : Jvm.MethodName) prog_16_method_3_code (4 : Nat) (Option.none : Option Jvm.ClassFile.FieldType)) ∈ lw_all := lw_g (lw_at lw_m12 188 rfl) rfl
theorem q3336 : (Jvm.Cond.methodLink "LibraryDesk$Matche\x72" (55 : Nat) ({ cls := "LibraryDesk$Matche\x72", name := "clea\x72", desc := "(II)V" } : Jvm.MethodName)) ∈ lw_all := lw_g (lw_at lw_m12 189 rfl) rfl
theorem q3337 : (Jvm.Cond.privateMethod ({ cls := "LibraryDesk$Matche\x72", name := "clea\x72", desc := "(II)V" } : Jvm.MethodName)) ∈ lw_tbl := lw_at lw_m12 190 rfl
theorem q3338 : (Jvm.Cond.instanceMethod ({ cls := "LibraryDesk$Matche\x72", name := "clea\x72", desc := "(II)V" } : Jvm.MethodName)) ∈ lw_all := lw_g (lw_at lw_m12 191 rfl) rfl
theorem q3339 : (Jvm.Cond.code ({ cls := "LibraryDesk$Matche\x72", name := "clea\x72", desc := "(II)V" } : Jvm.MethodName) prog_16_method_4_code (4 : Nat) (Option.none : Option Jvm.ClassFile.FieldType)) ∈ lw_all := lw_g (lw_at lw_m12 192 rfl) rfl
theorem q3340 : (Jvm.Cond.methodLink "LibraryDesk$Matche\x72" (148 : Nat) ({ cls := "LibraryDesk$Matche\x72", name := "at", desc := "(I)I" } : Jvm.MethodName)) ∈ lw_all := lw_g (lw_at lw_m12 193 rfl) rfl
theorem q3341 : (Jvm.Cond.privateMethod ({ cls := "LibraryDesk$Matche\x72", name := "at", desc := "(I)I" } : Jvm.MethodName)) ∈ lw_tbl := lw_at lw_m12 194 rfl
theorem q3342 : (Jvm.Cond.instanceMethod ({ cls := "LibraryDesk$Matche\x72", name := "at", desc := "(I)I" } : Jvm.MethodName)) ∈ lw_all := lw_g (lw_at lw_m12 195 rfl) rfl
theorem q3343 : (Jvm.Cond.code ({ cls := "LibraryDesk$Matche\x72", name := "at", desc := "(I)I" } : Jvm.MethodName) prog_16_method_15_code (3 : Nat) (Option.some Jvm.ClassFile.FieldType.int)) ∈ lw_all := lw_g (lw_at lw_m12 196 rfl) rfl
theorem q3344 : (Jvm.Cond.methodLink "LibraryDesk$Matche\x72" (131 : Nat) ({ cls := "LibraryDesk$Matche\x72", name := "run", desc := "(IIZ)I" } : Jvm.MethodName)) ∈ lw_all := lw_g (lw_at lw_m12 197 rfl) rfl
theorem q3345 : (Jvm.Cond.privateMethod ({ cls := "LibraryDesk$Matche\x72", name := "run", desc := "(IIZ)I" } : Jvm.MethodName)) ∈ lw_tbl := lw_at lw_m12 198 rfl
theorem q3346 : (Jvm.Cond.instanceMethod ({ cls := "LibraryDesk$Matche\x72", name := "run", desc := "(IIZ)I" } : Jvm.MethodName)) ∈ lw_all := lw_g (lw_at lw_m12 199 rfl) rfl
theorem q3347 : (Jvm.Cond.code ({ cls := "LibraryDesk$Matche\x72", name := "run", desc := "(IIZ)I" } : Jvm.MethodName) prog_16_method_11_code (9 : Nat) (Option.some Jvm.ClassFile.FieldType.int)) ∈ lw_all := lw_g (lw_at lw_m12 200 rfl) rfl
theorem q3348 : (Jvm.Cond.methodLink "LibraryDesk$Matche\x72" (100 : Nat) ({ cls := "LibraryDesk$Matche\x72", name := "pop", desc := "()Z" } : Jvm.MethodName)) ∈ lw_all := lw_g (lw_at lw_m12 201 rfl) rfl
theorem q3349 : (Jvm.Cond.privateMethod ({ cls := "LibraryDesk$Matche\x72", name := "pop", desc := "()Z" } : Jvm.MethodName)) ∈ lw_tbl := lw_at lw_m12 202 rfl
theorem q3350 : (Jvm.Cond.instanceMethod ({ cls := "LibraryDesk$Matche\x72", name := "pop", desc := "()Z" } : Jvm.MethodName)) ∈ lw_all := lw_g (lw_at lw_m12 203 rfl) rfl
theorem q3351 : (Jvm.Cond.code ({ cls := "LibraryDesk$Matche\x72", name := "pop", desc := "()Z" } : Jvm.MethodName) prog_16_method_9_code (3 : Nat) (Option.some Jvm.ClassFile.FieldType.boolean)) ∈ lw_all := lw_g (lw_at lw_m12 204 rfl) rfl
theorem q3352 : (Jvm.Cond.constantLong "LibraryDesk$Matche\x72" (83 : Nat) (65535 : Int64)) ∈ lw_all := lw_g (lw_at lw_m12 205 rfl) rfl
theorem q3353 : (Jvm.Cond.methodLink "LibraryDesk$Matche\x72" (104 : Nat) ({ cls := "LibraryDesk$Matche\x72", name := "isNew", desc := "(II)Z" } : Jvm.MethodName)) ∈ lw_all := lw_g (lw_at lw_m12 206 rfl) rfl
theorem q3354 : (Jvm.Cond.privateMethod ({ cls := "LibraryDesk$Matche\x72", name := "isNew", desc := "(II)Z" } : Jvm.MethodName)) ∈ lw_tbl := lw_at lw_m12 207 rfl
theorem q3355 : (Jvm.Cond.instanceMethod ({ cls := "LibraryDesk$Matche\x72", name := "isNew", desc := "(II)Z" } : Jvm.MethodName)) ∈ lw_all := lw_g (lw_at lw_m12 208 rfl) rfl
theorem q3356 : (Jvm.Cond.code ({ cls := "LibraryDesk$Matche\x72", name := "isNew", desc := "(II)Z" } : Jvm.MethodName) prog_16_method_5_code (9 : Nat) (Option.some Jvm.ClassFile.FieldType.boolean)) ∈ lw_all := lw_g (lw_at lw_m12 209 rfl) rfl
theorem q3357 : (Jvm.Cond.methodLink "LibraryDesk$Matche\x72" (114 : Nat) ({ cls := "LibraryDesk$Matche\x72", name := "pushWay", desc := "(II)V" } : Jvm.MethodName)) ∈ lw_all := lw_g (lw_at lw_m12 210 rfl) rfl
theorem q3358 : (Jvm.Cond.privateMethod ({ cls := "LibraryDesk$Matche\x72", name := "pushWay", desc := "(II)V" } : Jvm.MethodName)) ∈ lw_tbl := lw_at lw_m12 211 rfl
theorem q3359 : (Jvm.Cond.instanceMethod ({ cls := "LibraryDesk$Matche\x72", name := "pushWay", desc := "(II)V" } : Jvm.MethodName)) ∈ lw_all := lw_g (lw_at lw_m12 212 rfl) rfl
theorem q3360 : (Jvm.Cond.code ({ cls := "LibraryDesk$Matche\x72", name := "pushWay", desc := "(II)V" } : Jvm.MethodName) prog_16_method_7_code (3 : Nat) (Option.none : Option Jvm.ClassFile.FieldType)) ∈ lw_all := lw_g (lw_at lw_m12 213 rfl) rfl
theorem q3361 : (Jvm.Cond.methodLink "LibraryDesk$Matche\x72" (77 : Nat) ({ cls := "LibraryDesk$Matche\x72", name := "push", desc := "(J)V" } : Jvm.MethodName)) ∈ lw_all := lw_g (lw_at lw_m12 214 rfl) rfl
theorem q3362 : (Jvm.Cond.privateMethod ({ cls := "LibraryDesk$Matche\x72", name := "push", desc := "(J)V" } : Jvm.MethodName)) ∈ lw_tbl := lw_at lw_m12 215 rfl
theorem q3363 : (Jvm.Cond.instanceMethod ({ cls := "LibraryDesk$Matche\x72", name := "push", desc := "(J)V" } : Jvm.MethodName)) ∈ lw_all := lw_g (lw_at lw_m12 216 rfl) rfl
theorem q3364 : (Jvm.Cond.code ({ cls := "LibraryDesk$Matche\x72", name := "push", desc := "(J)V" } : Jvm.MethodName) prog_16_method_6_code (4 : Nat) (Option.none : Option Jvm.ClassFile.FieldType)) ∈ lw_all := lw_g (lw_at lw_m12 217 rfl) rfl
theorem q3365 : (Jvm.Cond.constant "LibraryDesk$Matche\x72" (68 : Nat) (65536 : Int32)) ∈ lw_all := lw_g (lw_at lw_m12 218 rfl) rfl
theorem q3366 : (Jvm.Cond.constant "LibraryDesk$Matche\x72" (69 : Nat) (410000 : Int32)) ∈ lw_all := lw_g (lw_at lw_m12 219 rfl) rfl
theorem q3367 : (Jvm.Cond.constant "LibraryDesk$Matche\x72" (70 : Nat) (820000 : Int32)) ∈ lw_all := lw_g (lw_at lw_m12 220 rfl) rfl
theorem q3368 : (Jvm.Cond.methodLink "LibraryDesk$Matche\x72" (71 : Nat) ({ cls := "java/lang/System", name := "arraycopy", desc := "(Ljava/lang/Object;ILjava/lang/Object;II)V" } : Jvm.MethodName)) ∈ lw_all := lw_g (lw_at lw_m12 221 rfl) rfl
theorem q3369 : (Jvm.Cond.methodLink "LibraryDesk$Matche\x72" (120 : Nat) ({ cls := "LibraryDesk$Matche\x72", name := "pushSlot", desc := "(I)V" } : Jvm.MethodName)) ∈ lw_all := lw_g (lw_at lw_m12 222 rfl) rfl
theorem q3370 : (Jvm.Cond.privateMethod ({ cls := "LibraryDesk$Matche\x72", name := "pushSlot", desc := "(I)V" } : Jvm.MethodName)) ∈ lw_tbl := lw_at lw_m12 223 rfl
theorem q3371 : (Jvm.Cond.instanceMethod ({ cls := "LibraryDesk$Matche\x72", name := "pushSlot", desc := "(I)V" } : Jvm.MethodName)) ∈ lw_all := lw_g (lw_at lw_m12 224 rfl) rfl
theorem q3372 : (Jvm.Cond.code ({ cls := "LibraryDesk$Matche\x72", name := "pushSlot", desc := "(I)V" } : Jvm.MethodName) prog_16_method_8_code (2 : Nat) (Option.none : Option Jvm.ClassFile.FieldType)) ∈ lw_all := lw_g (lw_at lw_m12 225 rfl) rfl
theorem q3373 : (Jvm.Cond.constantLong "LibraryDesk$Matche\x72" (81 : Nat) (1099511627776 : Int64)) ∈ lw_all := lw_g (lw_at lw_m12 226 rfl) rfl
theorem q3374 : (Jvm.Cond.methodLink "LibraryDesk$Matche\x72" (124 : Nat) ({ cls := "LibraryDesk$Matche\x72", name := "within", desc := "(II)I" } : Jvm.MethodName)) ∈ lw_all := lw_g (lw_at lw_m12 227 rfl) rfl
theorem q3375 : (Jvm.Cond.privateMethod ({ cls := "LibraryDesk$Matche\x72", name := "within", desc := "(II)I" } : Jvm.MethodName)) ∈ lw_tbl := lw_at lw_m12 228 rfl
theorem q3376 : (Jvm.Cond.instanceMethod ({ cls := "LibraryDesk$Matche\x72", name := "within", desc := "(II)I" } : Jvm.MethodName)) ∈ lw_all := lw_g (lw_at lw_m12 229 rfl) rfl
theorem q3377 : (Jvm.Cond.code ({ cls := "LibraryDesk$Matche\x72", name := "within", desc := "(II)I" } : Jvm.MethodName) prog_16_method_12_code (6 : Nat) (Option.some Jvm.ClassFile.FieldType.int)) ∈ lw_all := lw_g (lw_at lw_m12 230 rfl) rfl
theorem q3378 : (Jvm.Cond.methodLink "LibraryDesk$Matche\x72" (135 : Nat) ({ cls := "LibraryDesk$Matche\x72", name := "shorten", desc := "(I)V" } : Jvm.MethodName)) ∈ lw_all := lw_g (lw_at lw_m12 231 rfl) rfl
theorem q3379 : (Jvm.Cond.privateMethod ({ cls := "LibraryDesk$Matche\x72", name := "shorten", desc := "(I)V" } : Jvm.MethodName)) ∈ lw_tbl := lw_at lw_m12 232 rfl
theorem q3380 : (Jvm.Cond.instanceMethod ({ cls := "LibraryDesk$Matche\x72", name := "shorten", desc := "(I)V" } : Jvm.MethodName)) ∈ lw_all := lw_g (lw_at lw_m12 233 rfl) rfl
theorem q3381 : (Jvm.Cond.code ({ cls := "LibraryDesk$Matche\x72", name := "shorten", desc := "(I)V" } : Jvm.MethodName) prog_16_method_13_code (5 : Nat) (Option.none : Option Jvm.ClassFile.FieldType)) ∈ lw_all := lw_g (lw_at lw_m12 234 rfl) rfl
theorem q3382 : (Jvm.Cond.methodLink "LibraryDesk$Matche\x72" (128 : Nat) ({ cls := "LibraryDesk$Matche\x72", name := "holds", desc := "(II)Z" } : Jvm.MethodName)) ∈ lw_all := lw_g (lw_at lw_m12 235 rfl) rfl
theorem q3383 : (Jvm.Cond.privateMethod ({ cls := "LibraryDesk$Matche\x72", name := "holds", desc := "(II)Z" } : Jvm.MethodName)) ∈ lw_tbl := lw_at lw_m12 236 rfl
theorem q3384 : (Jvm.Cond.instanceMethod ({ cls := "LibraryDesk$Matche\x72", name := "holds", desc := "(II)Z" } : Jvm.MethodName)) ∈ lw_all := lw_g (lw_at lw_m12 237 rfl) rfl
theorem q3385 : (Jvm.Cond.code ({ cls := "LibraryDesk$Matche\x72", name := "holds", desc := "(II)Z" } : Jvm.MethodName) prog_16_method_14_code (3 : Nat) (Option.some Jvm.ClassFile.FieldType.boolean)) ∈ lw_all := lw_g (lw_at lw_m12 238 rfl) rfl
theorem q3386 : (Jvm.Cond.methodLinkNest "LibraryDesk$Matche\x72" (90 : Nat) ({ cls := "LibraryDesk$TextThing", name := "get", desc := "(I)I" } : Jvm.MethodName) "LibraryDesk") ∈ lw_tbl := lw_at lw_m12 239 rfl
theorem q3387 : (Jvm.Cond.methodLinkNest "LibraryDesk$Matche\x72" (138 : Nat) ({ cls := "LibraryDesk$PatternThing", name := "isIn", desc := "(II)Z" } : Jvm.MethodName) "LibraryDesk") ∈ lw_tbl := lw_at lw_m13 0 rfl
theorem q3391 : (Jvm.Cond.methodLink "LibraryDesk$Matche\x72" (141 : Nat) ({ cls := "LibraryDesk$Matche\x72", name := "isWordAt", desc := "(I)Z" } : Jvm.MethodName)) ∈ lw_all := lw_g (lw_at lw_m13 4 rfl) rfl
theorem q3392 : (Jvm.Cond.privateMethod ({ cls := "LibraryDesk$Matche\x72", name := "isWordAt", desc := "(I)Z" } : Jvm.MethodName)) ∈ lw_tbl := lw_at lw_m13 5 rfl
theorem q3393 : (Jvm.Cond.instanceMethod ({ cls := "LibraryDesk$Matche\x72", name := "isWordAt", desc := "(I)Z" } : Jvm.MethodName)) ∈ lw_all := lw_g (lw_at lw_m13 6 rfl) rfl
theorem q3394 : (Jvm.Cond.code ({ cls := "LibraryDesk$Matche\x72", name := "isWordAt", desc := "(I)Z" } : Jvm.MethodName) prog_16_method_10_code (2 : Nat) (Option.some Jvm.ClassFile.FieldType.boolean)) ∈ lw_all := lw_g (lw_at lw_m13 7 rfl) rfl
theorem q3395 : (Jvm.Cond.methodLinkNest "LibraryDesk$Matche\x72" (94 : Nat) ({ cls := "LibraryDesk$PatternReade\x72", name := "isWord", desc := "(I)Z" } : Jvm.MethodName) "LibraryDesk") ∈ lw_tbl := lw_at lw_m13 8 rfl
theorem q3396 : (Jvm.Cond.methodLink "LibraryDesk$Matche\x72" (151 : Nat) ({ cls := "LibraryDesk$Matche\x72", name := "keep", desc := "()V" } : Jvm.MethodName)) ∈ lw_all := lw_g (lw_at lw_m13 9 rfl) rfl
theorem q3397 : (Jvm.Cond.privateMethod ({ cls := "LibraryDesk$Matche\x72", name := "keep", desc := "()V" } : Jvm.MethodName)) ∈ lw_tbl := lw_at lw_m13 10 rfl
theorem q3398 : (Jvm.Cond.instanceMethod ({ cls := "LibraryDesk$Matche\x72", name := "keep", desc := "()V" } : Jvm.MethodName)) ∈ lw_all := lw_g (lw_at lw_m13 11 rfl) rfl
theorem q3399 : (Jvm.Cond.code ({ cls := "LibraryDesk$Matche\x72", name := "keep", desc := "()V" } : Jvm.MethodName) prog_16_method_16_code (2 : Nat) (Option.none : Option Jvm.ClassFile.FieldType)) ∈ lw_all := lw_g (lw_at lw_m13 12 rfl) rfl
theorem q3415 : (Jvm.Cond.privateMethod ({ cls := "LibraryDesk$Matche\x72", name := "replace", desc := "(LLibraryDesk$PatternThing;LLibraryDesk$TextThing;[BI)I" } : Jvm.MethodName)) ∈ lw_tbl := lw_at lw_m13 28 rfl
theorem q3416 : (Jvm.Cond.instanceMethod ({ cls := "LibraryDesk$Matche\x72", name := "replace", desc := "(LLibraryDesk$PatternThing;LLibraryDesk$TextThing;[BI)I" } : Jvm.MethodName)) ∈ lw_all := lw_g (lw_at lw_m13 29 rfl) rfl
theorem q3417 : (Jvm.Cond.code ({ cls := "LibraryDesk$Matche\x72", name := "replace", desc := "(LLibraryDesk$PatternThing;LLibraryDesk$TextThing;[BI)I" } : Jvm.MethodName) prog_16_method_22_code (10 : Nat) (Option.some Jvm.ClassFile.FieldType.int)) ∈ lw_all := lw_g (lw_at lw_m13 30 rfl) rfl
theorem q3418 : (Jvm.Cond.methodLink "LibraryDesk$Matche\x72" (174 : Nat) ({ cls := "LibraryDesk$Matche\x72", name := "checkForm", desc := "([BI)V" } : Jvm.MethodName)) ∈ lw_all := lw_g (lw_at lw_m13 31 rfl) rfl
theorem q3419 : (Jvm.Cond.static ({ cls := "LibraryDesk$Matche\x72", name := "checkForm", desc := "([BI)V" } : Jvm.MethodName)) ∈ lw_all := lw_g (lw_at lw_m13 32 rfl) rfl
theorem q3420 : (Jvm.Cond.code ({ cls := "LibraryDesk$Matche\x72", name := "checkForm", desc := "([BI)V" } : Jvm.MethodName) prog_16_method_20_code (3 : Nat) (Option.none : Option Jvm.ClassFile.FieldType)) ∈ lw_all := lw_g (lw_at lw_m13 33 rfl) rfl
theorem q3421 : (Jvm.Cond.methodLinkNest "LibraryDesk$Matche\x72" (164 : Nat) ({ cls := "LibraryDesk$PatternReade\x72", name := "isDigit", desc := "(I)Z" } : Jvm.MethodName) "LibraryDesk") ∈ lw_tbl := lw_at lw_m13 34 rfl
theorem q3422 : (Jvm.Cond.classLink "LibraryDesk$Matche\x72" (167 : Nat) "LibraryDesk$Broken") ∈ lw_all := lw_g (lw_at lw_m13 35 rfl) rfl
theorem q3423 : (Jvm.Cond.methodLinkNest "LibraryDesk$Matche\x72" (169 : Nat) ({ cls := "LibraryDesk$Broken", name := "<init>", desc := "(I)V" } : Jvm.MethodName) "LibraryDesk") ∈ lw_tbl := lw_at lw_m13 36 rfl
theorem q3424 : (Jvm.Cond.methodLink "LibraryDesk$Matche\x72" (171 : Nat) ({ cls := "LibraryDesk$Matche\x72", name := "makeAll", desc := "(II)V" } : Jvm.MethodName)) ∈ lw_all := lw_g (lw_at lw_m13 37 rfl) rfl
theorem q3425 : (Jvm.Cond.privateMethod ({ cls := "LibraryDesk$Matche\x72", name := "makeAll", desc := "(II)V" } : Jvm.MethodName)) ∈ lw_tbl := lw_at lw_m13 38 rfl
theorem q3426 : (Jvm.Cond.instanceMethod ({ cls := "LibraryDesk$Matche\x72", name := "makeAll", desc := "(II)V" } : Jvm.MethodName)) ∈ lw_all := lw_g (lw_at lw_m13 39 rfl) rfl
theorem q3427 : (Jvm.Cond.code ({ cls := "LibraryDesk$Matche\x72", name := "makeAll", desc := "(II)V" } : Jvm.MethodName) prog_16_method_19_code (4 : Nat) (Option.none : Option Jvm.ClassFile.FieldType)) ∈ lw_all := lw_g (lw_at lw_m13 40 rfl) rfl
theorem q3428 : (Jvm.Cond.methodLink "LibraryDesk$Matche\x72" (161 : Nat) ({ cls := "LibraryDesk$Matche\x72", name := "make", desc := "(I)V" } : Jvm.MethodName)) ∈ lw_all := lw_g (lw_at lw_m13 41 rfl) rfl
theorem q3429 : (Jvm.Cond.privateMethod ({ cls := "LibraryDesk$Matche\x72", name := "make", desc := "(I)V" } : Jvm.MethodName)) ∈ lw_tbl := lw_at lw_m13 42 rfl
theorem q3430 : (Jvm.Cond.instanceMethod ({ cls := "LibraryDesk$Matche\x72", name := "make", desc := "(I)V" } : Jvm.MethodName)) ∈ lw_all := lw_g (lw_at lw_m13 43 rfl) rfl
theorem q3431 : (Jvm.Cond.code ({ cls := "LibraryDesk$Matche\x72", name := "make", desc := "(I)V" } : Jvm.MethodName) prog_16_method_18_code (2 : Nat) (Option.none : Option Jvm.ClassFile.FieldType)) ∈ lw_all := lw_g (lw_at lw_m13 44 rfl) rfl
theorem q3432 : (Jvm.Cond.methodLinkNest "LibraryDesk$Matche\x72" (157 : Nat) ({ cls := "LibraryDesk", name := "state", desc := "(Z)V" } : Jvm.MethodName) "LibraryDesk") ∈ lw_tbl := lw_at lw_m13 45 rfl
theorem q3433 : (Jvm.Cond.methodLink "LibraryDesk$Matche\x72" (178 : Nat) ({ cls := "LibraryDesk$Matche\x72", name := "fill", desc := "([BI)V" } : Jvm.MethodName)) ∈ lw_all := lw_g (lw_at lw_m13 46 rfl) rfl
theorem q3434 : (Jvm.Cond.privateMethod ({ cls := "LibraryDesk$Matche\x72", name := "fill", desc := "([BI)V" } : Jvm.MethodName)) ∈ lw_tbl := lw_at lw_m13 47 rfl
theorem q3435 : (Jvm.Cond.instanceMethod ({ cls := "LibraryDesk$Matche\x72", name := "fill", desc := "([BI)V" } : Jvm.MethodName)) ∈ lw_all := lw_g (lw_at lw_m13 48 rfl) rfl
theorem q3436 : (Jvm.Cond.code ({ cls := "LibraryDesk$Matche\x72", name := "fill", desc := "([BI)V" } : Jvm.MethodName) prog_16_method_21_code (6 : Nat) (Option.none : Option Jvm.ClassFile.FieldType)) ∈ lw_all := lw_g (lw_at lw_m13 49 rfl) rfl
theorem q6111 : (Jvm.Cond.castable "LibraryDesk$Matche\x72" "java/lang/Object") ∈ lw_tbl := lw_at lw_m24 84 rfl
theorem in_X5 : ∀ w ∈ wsX50, w ∈ lw_all := lw_in wsX50 [687, 689, 691, 693, 695, 697, 699, 701, 703, 705, 707] (by decide +kernel) (by decide +kernel)

/-! LibraryDesk$Former -/
set_option maxRecDepth 100000
def RX6 : String := "LibraryDesk$Forme\x72"
def TX6 : u_T := fun k => match k with
  | 0 => ("LibraryDesk$Forme\x72", "text", "[B", false)
  | 1 => ("LibraryDesk$Forme\x72", "length", "I", false)
  | 2 => ("LibraryDesk$Forme\x72", "at", "I", false)
  | 3 => ("LibraryDesk$Forme\x72", "left", "Z", false)
  | 4 => ("LibraryDesk$Forme\x72", "zeros", "Z", false)
  | 5 => ("LibraryDesk$Forme\x72", "plus", "Z", false)
  | 6 => ("LibraryDesk$Forme\x72", "blank", "Z", false)
  | 7 => ("LibraryDesk$Forme\x72", "parts", "Z", false)
  | 8 => ("LibraryDesk$Forme\x72", "width", "I", false)
  | 9 => ("LibraryDesk$Forme\x72", "cut", "I", false)
  | 10 => ("LibraryDesk$Forme\x72", "lette\x72", "I", false)
  | 11 => ("LibraryDesk$Forme\x72", "field", "[B", true)
  | _ => ("LibraryDesk$Forme\x72", "many", "I", false)
def tyX6 : Nat → FieldType := fun k => match k with
  | 0 => .array .byte
  | 1 => .int
  | 2 => .int
  | 3 => .boolean
  | 4 => .boolean
  | 5 => .boolean
  | 6 => .boolean
  | 7 => .boolean
  | 8 => .int
  | 9 => .int
  | 10 => .int
  | 11 => .array .byte
  | _ => .int
abbrev wsX60 : List Cond := u_ws RX6 TX6 13
set_option maxRecDepth 100000 in
theorem nmX6 : ∀ a, a < 13 → ∀ b, b < 13 → a ≠ b → (TX6 a).2.1 ≠ (TX6 b).2.1 := by decide +kernel
set_option maxRecDepth 100000 in
theorem tyX6_ok : ∀ k, k < 13 → parseFieldDescriptor (TX6 k).2.2.1 = some (tyX6 k) := by decide +kernel
abbrev cX6_init : ByteArray := prog_9_method_1_code
def yX6_init : MethodName := ⟨RX6, "<init>", "()V"⟩
def dkwX6_init_0 : List UInt8 := [42, 183, 0, 3, 42, 17, 16, 32, 188, 8, 181, 0, 9, 177]
abbrev dktX6_init_0 : List UInt8 := dkwX6_init_0 ++ []
theorem dksX6_init_0 : cX6_init.data.toList.drop 0 = dktX6_init_0 := by decide +kernel
theorem dX6_init_0 : decode cX6_init 0 = .ok (.aload_n 0, 1) := dk_42 (dk_at dksX6_init_0 0 rfl rfl)
theorem dX6_init_1 : decode cX6_init 1 = .ok (.invokespecial 3, 3) := dk_183 0 3 (dk_at dksX6_init_0 1 rfl rfl)
theorem dX6_init_4 : decode cX6_init 4 = .ok (.aload_n 0, 1) := dk_42 (dk_at dksX6_init_0 4 rfl rfl)
theorem dX6_init_5 : decode cX6_init 5 = .ok (.sipush 4128, 3) := dk_17 16 32 (dk_at dksX6_init_0 5 rfl rfl)
theorem dX6_init_8 : decode cX6_init 8 = .ok (.newarray .byte, 2) := dk_188_8 (dk_at dksX6_init_0 8 rfl rfl)
theorem dX6_init_10 : decode cX6_init 10 = .ok (.putfield 9, 3) := dk_181 0 9 (dk_at dksX6_init_0 10 rfl rfl)
theorem dX6_init_13 : decode cX6_init 13 = .ok (.return_, 1) := dk_177 (dk_at dksX6_init_0 13 rfl rfl)
abbrev cX6_check : ByteArray := prog_9_method_9_code
def yX6_check : MethodName := ⟨RX6, "check", "()V"⟩
def dkwX6_check_2 : List UInt8 := [89, 180, 0, 15, 4, 96, 181, 0, 15, 167, 255, 204, 177]
abbrev dktX6_check_2 : List UInt8 := dkwX6_check_2 ++ []
def dkwX6_check_1 : List UInt8 := [51, 16, 37, 160, 0, 20, 42, 89, 180, 0, 15, 4, 96, 181, 0, 15, 42, 182, 0, 77, 167, 255, 217, 42]
abbrev dktX6_check_1 : List UInt8 := dkwX6_check_1 ++ dktX6_check_2
def dkwX6_check_0 : List UInt8 := [42, 3, 181, 0, 15, 42, 180, 0, 15, 42, 180, 0, 19, 162, 0, 47, 42, 180, 0, 22, 42, 180, 0, 15]
abbrev dktX6_check_0 : List UInt8 := dkwX6_check_0 ++ dktX6_check_1
theorem dksX6_check_0 : cX6_check.data.toList.drop 0 = dktX6_check_0 := by decide +kernel
theorem dksX6_check_1 : cX6_check.data.toList.drop 24 = dktX6_check_1 := dk_seg dksX6_check_0 24 rfl rfl
theorem dksX6_check_2 : cX6_check.data.toList.drop 48 = dktX6_check_2 := dk_seg dksX6_check_1 24 rfl rfl
theorem dX6_check_0 : decode cX6_check 0 = .ok (.aload_n 0, 1) := dk_42 (dk_at dksX6_check_0 0 rfl rfl)
theorem dX6_check_1 : decode cX6_check 1 = .ok (.iconst 0, 1) := dk_3 (dk_at dksX6_check_0 1 rfl rfl)
theorem dX6_check_2 : decode cX6_check 2 = .ok (.putfield 15, 3) := dk_181 0 15 (dk_at dksX6_check_0 2 rfl rfl)
theorem dX6_check_5 : decode cX6_check 5 = .ok (.aload_n 0, 1) := dk_42 (dk_at dksX6_check_0 5 rfl rfl)
theorem dX6_check_6 : decode cX6_check 6 = .ok (.getfield 15, 3) := dk_180 0 15 (dk_at dksX6_check_0 6 rfl rfl)
theorem dX6_check_9 : decode cX6_check 9 = .ok (.aload_n 0, 1) := dk_42 (dk_at dksX6_check_0 9 rfl rfl)
theorem dX6_check_10 : decode cX6_check 10 = .ok (.getfield 19, 3) := dk_180 0 19 (dk_at dksX6_check_0 10 rfl rfl)
theorem dX6_check_13 : decode cX6_check 13 = .ok (.if_icmp .ge 47, 3) := dk_162 0 47 (dk_at dksX6_check_0 13 rfl rfl)
theorem dX6_check_16 : decode cX6_check 16 = .ok (.aload_n 0, 1) := dk_42 (dk_at dksX6_check_0 16 rfl rfl)
theorem dX6_check_17 : decode cX6_check 17 = .ok (.getfield 22, 3) := dk_180 0 22 (dk_at dksX6_check_0 17 rfl rfl)
theorem dX6_check_20 : decode cX6_check 20 = .ok (.aload_n 0, 1) := dk_42 (dk_at dksX6_check_0 20 rfl rfl)
theorem dX6_check_21 : decode cX6_check 21 = .ok (.getfield 15, 3) := dk_180 0 15 (dk_at dksX6_check_0 21 rfl rfl)
theorem dX6_check_24 : decode cX6_check 24 = .ok (.baload, 1) := dk_51 (dk_at dksX6_check_1 0 rfl rfl)
theorem dX6_check_25 : decode cX6_check 25 = .ok (.bipush 37, 2) := dk_16 37 (dk_at dksX6_check_1 1 rfl rfl)
theorem dX6_check_27 : decode cX6_check 27 = .ok (.if_icmp .ne 20, 3) := dk_160 0 20 (dk_at dksX6_check_1 3 rfl rfl)
theorem dX6_check_30 : decode cX6_check 30 = .ok (.aload_n 0, 1) := dk_42 (dk_at dksX6_check_1 6 rfl rfl)
theorem dX6_check_31 : decode cX6_check 31 = .ok (.dup, 1) := dk_89 (dk_at dksX6_check_1 7 rfl rfl)
theorem dX6_check_32 : decode cX6_check 32 = .ok (.getfield 15, 3) := dk_180 0 15 (dk_at dksX6_check_1 8 rfl rfl)
theorem dX6_check_35 : decode cX6_check 35 = .ok (.iconst 1, 1) := dk_4 (dk_at dksX6_check_1 11 rfl rfl)
theorem dX6_check_36 : decode cX6_check 36 = .ok (.iadd, 1) := dk_96 (dk_at dksX6_check_1 12 rfl rfl)
theorem dX6_check_37 : decode cX6_check 37 = .ok (.putfield 15, 3) := dk_181 0 15 (dk_at dksX6_check_1 13 rfl rfl)
theorem dX6_check_40 : decode cX6_check 40 = .ok (.aload_n 0, 1) := dk_42 (dk_at dksX6_check_1 16 rfl rfl)
theorem dX6_check_41 : decode cX6_check 41 = .ok (.invokevirtual 77, 3) := dk_182 0 77 (dk_at dksX6_check_1 17 rfl rfl)
theorem dX6_check_44 : decode cX6_check 44 = .ok (.goto (-39), 3) := dk_167 255 217 (dk_at dksX6_check_1 20 rfl rfl)
theorem dX6_check_47 : decode cX6_check 47 = .ok (.aload_n 0, 1) := dk_42 (dk_at dksX6_check_1 23 rfl rfl)
theorem dX6_check_48 : decode cX6_check 48 = .ok (.dup, 1) := dk_89 (dk_at dksX6_check_2 0 rfl rfl)
theorem dX6_check_49 : decode cX6_check 49 = .ok (.getfield 15, 3) := dk_180 0 15 (dk_at dksX6_check_2 1 rfl rfl)
theorem dX6_check_52 : decode cX6_check 52 = .ok (.iconst 1, 1) := dk_4 (dk_at dksX6_check_2 4 rfl rfl)
theorem dX6_check_53 : decode cX6_check 53 = .ok (.iadd, 1) := dk_96 (dk_at dksX6_check_2 5 rfl rfl)
theorem dX6_check_54 : decode cX6_check 54 = .ok (.putfield 15, 3) := dk_181 0 15 (dk_at dksX6_check_2 6 rfl rfl)
theorem dX6_check_57 : decode cX6_check 57 = .ok (.goto (-52), 3) := dk_167 255 204 (dk_at dksX6_check_2 9 rfl rfl)
theorem dX6_check_60 : decode cX6_check 60 = .ok (.return_, 1) := dk_177 (dk_at dksX6_check_2 12 rfl rfl)
abbrev cX6_field : ByteArray := prog_9_method_7_code
def yX6_field : MethodName := ⟨RX6, "field", "()V"⟩
def dkwX6_field_7 : List UInt8 := [183, 0, 27, 191, 42, 89, 180, 0, 15, 4, 96, 181, 0, 15, 177]
abbrev dktX6_field_7 : List UInt8 := dkwX6_field_7 ++ []
def dkwX6_field_6 : List UInt8 := [167, 0, 4, 3, 60, 27, 153, 0, 10, 42, 182, 0, 73, 153, 0, 15, 187, 0, 25, 89, 42, 180, 0, 15]
abbrev dktX6_field_6 : List UInt8 := dkwX6_field_6 ++ dktX6_field_7
def dkwX6_field_5 : List UInt8 := [159, 0, 21, 42, 180, 0, 70, 16, 115, 159, 0, 12, 42, 180, 0, 70, 16, 37, 160, 0, 7, 4]
abbrev dktX6_field_5 : List UInt8 := dkwX6_field_5 ++ dktX6_field_6
def dkwX6_field_4 : List UInt8 := [42, 180, 0, 70, 16, 111, 159, 0, 39, 42, 180, 0, 70, 16, 99, 159, 0, 30, 42, 180, 0, 70, 16, 98]
abbrev dktX6_field_4 : List UInt8 := dkwX6_field_4 ++ dktX6_field_5
def dkwX6_field_3 : List UInt8 := [182, 0, 46, 181, 0, 70, 42, 180, 0, 70, 16, 100, 159, 0, 57, 42, 180, 0, 70, 16, 120, 159, 0, 48]
abbrev dktX6_field_3 : List UInt8 := dkwX6_field_3 ++ dktX6_field_4
def dkwX6_field_2 : List UInt8 := [187, 0, 25, 89, 42, 180, 0, 15, 183, 0, 27, 191, 42, 42, 182, 0, 61, 181, 0, 67, 42, 42]
abbrev dktX6_field_2 : List UInt8 := dkwX6_field_2 ++ dktX6_field_3
def dkwX6_field_1 : List UInt8 := [160, 0, 43, 42, 89, 180, 0, 15, 4, 96, 181, 0, 15, 42, 182, 0, 46, 184, 0, 54, 154, 0, 15]
abbrev dktX6_field_1 : List UInt8 := dkwX6_field_1 ++ dktX6_field_2
def dkwX6_field_0 : List UInt8 := [42, 182, 0, 58, 42, 42, 182, 0, 61, 181, 0, 64, 42, 2, 181, 0, 67, 42, 182, 0, 46, 16, 46]
abbrev dktX6_field_0 : List UInt8 := dkwX6_field_0 ++ dktX6_field_1
theorem dksX6_field_0 : cX6_field.data.toList.drop 0 = dktX6_field_0 := by decide +kernel
theorem dksX6_field_1 : cX6_field.data.toList.drop 23 = dktX6_field_1 := dk_seg dksX6_field_0 23 rfl rfl
theorem dksX6_field_2 : cX6_field.data.toList.drop 46 = dktX6_field_2 := dk_seg dksX6_field_1 23 rfl rfl
theorem dksX6_field_3 : cX6_field.data.toList.drop 68 = dktX6_field_3 := dk_seg dksX6_field_2 22 rfl rfl
theorem dksX6_field_4 : cX6_field.data.toList.drop 92 = dktX6_field_4 := dk_seg dksX6_field_3 24 rfl rfl
theorem dksX6_field_5 : cX6_field.data.toList.drop 116 = dktX6_field_5 := dk_seg dksX6_field_4 24 rfl rfl
theorem dksX6_field_6 : cX6_field.data.toList.drop 138 = dktX6_field_6 := dk_seg dksX6_field_5 22 rfl rfl
theorem dksX6_field_7 : cX6_field.data.toList.drop 162 = dktX6_field_7 := dk_seg dksX6_field_6 24 rfl rfl
theorem dX6_field_0 : decode cX6_field 0 = .ok (.aload_n 0, 1) := dk_42 (dk_at dksX6_field_0 0 rfl rfl)
theorem dX6_field_1 : decode cX6_field 1 = .ok (.invokevirtual 58, 3) := dk_182 0 58 (dk_at dksX6_field_0 1 rfl rfl)
theorem dX6_field_4 : decode cX6_field 4 = .ok (.aload_n 0, 1) := dk_42 (dk_at dksX6_field_0 4 rfl rfl)
theorem dX6_field_5 : decode cX6_field 5 = .ok (.aload_n 0, 1) := dk_42 (dk_at dksX6_field_0 5 rfl rfl)
theorem dX6_field_6 : decode cX6_field 6 = .ok (.invokevirtual 61, 3) := dk_182 0 61 (dk_at dksX6_field_0 6 rfl rfl)
theorem dX6_field_9 : decode cX6_field 9 = .ok (.putfield 64, 3) := dk_181 0 64 (dk_at dksX6_field_0 9 rfl rfl)
theorem dX6_field_12 : decode cX6_field 12 = .ok (.aload_n 0, 1) := dk_42 (dk_at dksX6_field_0 12 rfl rfl)
theorem dX6_field_13 : decode cX6_field 13 = .ok (.iconst (-1), 1) := dk_2 (dk_at dksX6_field_0 13 rfl rfl)
theorem dX6_field_14 : decode cX6_field 14 = .ok (.putfield 67, 3) := dk_181 0 67 (dk_at dksX6_field_0 14 rfl rfl)
theorem dX6_field_17 : decode cX6_field 17 = .ok (.aload_n 0, 1) := dk_42 (dk_at dksX6_field_0 17 rfl rfl)
theorem dX6_field_18 : decode cX6_field 18 = .ok (.invokevirtual 46, 3) := dk_182 0 46 (dk_at dksX6_field_0 18 rfl rfl)
theorem dX6_field_21 : decode cX6_field 21 = .ok (.bipush 46, 2) := dk_16 46 (dk_at dksX6_field_0 21 rfl rfl)
theorem dX6_field_23 : decode cX6_field 23 = .ok (.if_icmp .ne 43, 3) := dk_160 0 43 (dk_at dksX6_field_1 0 rfl rfl)
theorem dX6_field_26 : decode cX6_field 26 = .ok (.aload_n 0, 1) := dk_42 (dk_at dksX6_field_1 3 rfl rfl)
theorem dX6_field_27 : decode cX6_field 27 = .ok (.dup, 1) := dk_89 (dk_at dksX6_field_1 4 rfl rfl)
theorem dX6_field_28 : decode cX6_field 28 = .ok (.getfield 15, 3) := dk_180 0 15 (dk_at dksX6_field_1 5 rfl rfl)
theorem dX6_field_31 : decode cX6_field 31 = .ok (.iconst 1, 1) := dk_4 (dk_at dksX6_field_1 8 rfl rfl)
theorem dX6_field_32 : decode cX6_field 32 = .ok (.iadd, 1) := dk_96 (dk_at dksX6_field_1 9 rfl rfl)
theorem dX6_field_33 : decode cX6_field 33 = .ok (.putfield 15, 3) := dk_181 0 15 (dk_at dksX6_field_1 10 rfl rfl)
theorem dX6_field_36 : decode cX6_field 36 = .ok (.aload_n 0, 1) := dk_42 (dk_at dksX6_field_1 13 rfl rfl)
theorem dX6_field_37 : decode cX6_field 37 = .ok (.invokevirtual 46, 3) := dk_182 0 46 (dk_at dksX6_field_1 14 rfl rfl)
theorem dX6_field_40 : decode cX6_field 40 = .ok (.invokestatic 54, 3) := dk_184 0 54 (dk_at dksX6_field_1 17 rfl rfl)
theorem dX6_field_43 : decode cX6_field 43 = .ok (.ifCond .ne 15, 3) := dk_154 0 15 (dk_at dksX6_field_1 20 rfl rfl)
theorem dX6_field_46 : decode cX6_field 46 = .ok (.new 25, 3) := dk_187 0 25 (dk_at dksX6_field_2 0 rfl rfl)
theorem dX6_field_49 : decode cX6_field 49 = .ok (.dup, 1) := dk_89 (dk_at dksX6_field_2 3 rfl rfl)
theorem dX6_field_50 : decode cX6_field 50 = .ok (.aload_n 0, 1) := dk_42 (dk_at dksX6_field_2 4 rfl rfl)
theorem dX6_field_51 : decode cX6_field 51 = .ok (.getfield 15, 3) := dk_180 0 15 (dk_at dksX6_field_2 5 rfl rfl)
theorem dX6_field_54 : decode cX6_field 54 = .ok (.invokespecial 27, 3) := dk_183 0 27 (dk_at dksX6_field_2 8 rfl rfl)
theorem dX6_field_57 : decode cX6_field 57 = .ok (.athrow, 1) := dk_191 (dk_at dksX6_field_2 11 rfl rfl)
theorem dX6_field_58 : decode cX6_field 58 = .ok (.aload_n 0, 1) := dk_42 (dk_at dksX6_field_2 12 rfl rfl)
theorem dX6_field_59 : decode cX6_field 59 = .ok (.aload_n 0, 1) := dk_42 (dk_at dksX6_field_2 13 rfl rfl)
theorem dX6_field_60 : decode cX6_field 60 = .ok (.invokevirtual 61, 3) := dk_182 0 61 (dk_at dksX6_field_2 14 rfl rfl)
theorem dX6_field_63 : decode cX6_field 63 = .ok (.putfield 67, 3) := dk_181 0 67 (dk_at dksX6_field_2 17 rfl rfl)
theorem dX6_field_66 : decode cX6_field 66 = .ok (.aload_n 0, 1) := dk_42 (dk_at dksX6_field_2 20 rfl rfl)
theorem dX6_field_67 : decode cX6_field 67 = .ok (.aload_n 0, 1) := dk_42 (dk_at dksX6_field_2 21 rfl rfl)
theorem dX6_field_68 : decode cX6_field 68 = .ok (.invokevirtual 46, 3) := dk_182 0 46 (dk_at dksX6_field_3 0 rfl rfl)
theorem dX6_field_71 : decode cX6_field 71 = .ok (.putfield 70, 3) := dk_181 0 70 (dk_at dksX6_field_3 3 rfl rfl)
theorem dX6_field_74 : decode cX6_field 74 = .ok (.aload_n 0, 1) := dk_42 (dk_at dksX6_field_3 6 rfl rfl)
theorem dX6_field_75 : decode cX6_field 75 = .ok (.getfield 70, 3) := dk_180 0 70 (dk_at dksX6_field_3 7 rfl rfl)
theorem dX6_field_78 : decode cX6_field 78 = .ok (.bipush 100, 2) := dk_16 100 (dk_at dksX6_field_3 10 rfl rfl)
theorem dX6_field_80 : decode cX6_field 80 = .ok (.if_icmp .eq 57, 3) := dk_159 0 57 (dk_at dksX6_field_3 12 rfl rfl)
theorem dX6_field_83 : decode cX6_field 83 = .ok (.aload_n 0, 1) := dk_42 (dk_at dksX6_field_3 15 rfl rfl)
theorem dX6_field_84 : decode cX6_field 84 = .ok (.getfield 70, 3) := dk_180 0 70 (dk_at dksX6_field_3 16 rfl rfl)
theorem dX6_field_87 : decode cX6_field 87 = .ok (.bipush 120, 2) := dk_16 120 (dk_at dksX6_field_3 19 rfl rfl)
theorem dX6_field_89 : decode cX6_field 89 = .ok (.if_icmp .eq 48, 3) := dk_159 0 48 (dk_at dksX6_field_3 21 rfl rfl)
theorem dX6_field_92 : decode cX6_field 92 = .ok (.aload_n 0, 1) := dk_42 (dk_at dksX6_field_4 0 rfl rfl)
theorem dX6_field_93 : decode cX6_field 93 = .ok (.getfield 70, 3) := dk_180 0 70 (dk_at dksX6_field_4 1 rfl rfl)
theorem dX6_field_96 : decode cX6_field 96 = .ok (.bipush 111, 2) := dk_16 111 (dk_at dksX6_field_4 4 rfl rfl)
theorem dX6_field_98 : decode cX6_field 98 = .ok (.if_icmp .eq 39, 3) := dk_159 0 39 (dk_at dksX6_field_4 6 rfl rfl)
theorem dX6_field_101 : decode cX6_field 101 = .ok (.aload_n 0, 1) := dk_42 (dk_at dksX6_field_4 9 rfl rfl)
theorem dX6_field_102 : decode cX6_field 102 = .ok (.getfield 70, 3) := dk_180 0 70 (dk_at dksX6_field_4 10 rfl rfl)
theorem dX6_field_105 : decode cX6_field 105 = .ok (.bipush 99, 2) := dk_16 99 (dk_at dksX6_field_4 13 rfl rfl)
theorem dX6_field_107 : decode cX6_field 107 = .ok (.if_icmp .eq 30, 3) := dk_159 0 30 (dk_at dksX6_field_4 15 rfl rfl)
theorem dX6_field_110 : decode cX6_field 110 = .ok (.aload_n 0, 1) := dk_42 (dk_at dksX6_field_4 18 rfl rfl)
theorem dX6_field_111 : decode cX6_field 111 = .ok (.getfield 70, 3) := dk_180 0 70 (dk_at dksX6_field_4 19 rfl rfl)
theorem dX6_field_114 : decode cX6_field 114 = .ok (.bipush 98, 2) := dk_16 98 (dk_at dksX6_field_4 22 rfl rfl)
theorem dX6_field_116 : decode cX6_field 116 = .ok (.if_icmp .eq 21, 3) := dk_159 0 21 (dk_at dksX6_field_5 0 rfl rfl)
theorem dX6_field_119 : decode cX6_field 119 = .ok (.aload_n 0, 1) := dk_42 (dk_at dksX6_field_5 3 rfl rfl)
theorem dX6_field_120 : decode cX6_field 120 = .ok (.getfield 70, 3) := dk_180 0 70 (dk_at dksX6_field_5 4 rfl rfl)
theorem dX6_field_123 : decode cX6_field 123 = .ok (.bipush 115, 2) := dk_16 115 (dk_at dksX6_field_5 7 rfl rfl)
theorem dX6_field_125 : decode cX6_field 125 = .ok (.if_icmp .eq 12, 3) := dk_159 0 12 (dk_at dksX6_field_5 9 rfl rfl)
theorem dX6_field_128 : decode cX6_field 128 = .ok (.aload_n 0, 1) := dk_42 (dk_at dksX6_field_5 12 rfl rfl)
theorem dX6_field_129 : decode cX6_field 129 = .ok (.getfield 70, 3) := dk_180 0 70 (dk_at dksX6_field_5 13 rfl rfl)
theorem dX6_field_132 : decode cX6_field 132 = .ok (.bipush 37, 2) := dk_16 37 (dk_at dksX6_field_5 16 rfl rfl)
theorem dX6_field_134 : decode cX6_field 134 = .ok (.if_icmp .ne 7, 3) := dk_160 0 7 (dk_at dksX6_field_5 18 rfl rfl)
theorem dX6_field_137 : decode cX6_field 137 = .ok (.iconst 1, 1) := dk_4 (dk_at dksX6_field_5 21 rfl rfl)
theorem dX6_field_138 : decode cX6_field 138 = .ok (.goto 4, 3) := dk_167 0 4 (dk_at dksX6_field_6 0 rfl rfl)
theorem dX6_field_141 : decode cX6_field 141 = .ok (.iconst 0, 1) := dk_3 (dk_at dksX6_field_6 3 rfl rfl)
theorem dX6_field_142 : decode cX6_field 142 = .ok (.istore_n 1, 1) := dk_60 (dk_at dksX6_field_6 4 rfl rfl)
theorem dX6_field_143 : decode cX6_field 143 = .ok (.iload_n 1, 1) := dk_27 (dk_at dksX6_field_6 5 rfl rfl)
theorem dX6_field_144 : decode cX6_field 144 = .ok (.ifCond .eq 10, 3) := dk_153 0 10 (dk_at dksX6_field_6 6 rfl rfl)
theorem dX6_field_147 : decode cX6_field 147 = .ok (.aload_n 0, 1) := dk_42 (dk_at dksX6_field_6 9 rfl rfl)
theorem dX6_field_148 : decode cX6_field 148 = .ok (.invokevirtual 73, 3) := dk_182 0 73 (dk_at dksX6_field_6 10 rfl rfl)
theorem dX6_field_151 : decode cX6_field 151 = .ok (.ifCond .eq 15, 3) := dk_153 0 15 (dk_at dksX6_field_6 13 rfl rfl)
theorem dX6_field_154 : decode cX6_field 154 = .ok (.new 25, 3) := dk_187 0 25 (dk_at dksX6_field_6 16 rfl rfl)
theorem dX6_field_157 : decode cX6_field 157 = .ok (.dup, 1) := dk_89 (dk_at dksX6_field_6 19 rfl rfl)
theorem dX6_field_158 : decode cX6_field 158 = .ok (.aload_n 0, 1) := dk_42 (dk_at dksX6_field_6 20 rfl rfl)
theorem dX6_field_159 : decode cX6_field 159 = .ok (.getfield 15, 3) := dk_180 0 15 (dk_at dksX6_field_6 21 rfl rfl)
theorem dX6_field_162 : decode cX6_field 162 = .ok (.invokespecial 27, 3) := dk_183 0 27 (dk_at dksX6_field_7 0 rfl rfl)
theorem dX6_field_165 : decode cX6_field 165 = .ok (.athrow, 1) := dk_191 (dk_at dksX6_field_7 3 rfl rfl)
theorem dX6_field_166 : decode cX6_field 166 = .ok (.aload_n 0, 1) := dk_42 (dk_at dksX6_field_7 4 rfl rfl)
theorem dX6_field_167 : decode cX6_field 167 = .ok (.dup, 1) := dk_89 (dk_at dksX6_field_7 5 rfl rfl)
theorem dX6_field_168 : decode cX6_field 168 = .ok (.getfield 15, 3) := dk_180 0 15 (dk_at dksX6_field_7 6 rfl rfl)
theorem dX6_field_171 : decode cX6_field 171 = .ok (.iconst 1, 1) := dk_4 (dk_at dksX6_field_7 9 rfl rfl)
theorem dX6_field_172 : decode cX6_field 172 = .ok (.iadd, 1) := dk_96 (dk_at dksX6_field_7 10 rfl rfl)
theorem dX6_field_173 : decode cX6_field 173 = .ok (.putfield 15, 3) := dk_181 0 15 (dk_at dksX6_field_7 11 rfl rfl)
theorem dX6_field_176 : decode cX6_field 176 = .ok (.return_, 1) := dk_177 (dk_at dksX6_field_7 14 rfl rfl)
abbrev cX6_flags : ByteArray := prog_9_method_5_code
def yX6_flags : MethodName := ⟨RX6, "flags", "()V"⟩
def dkwX6_flags_6 : List UInt8 := [167, 255, 127, 3, 60, 167, 255, 122, 177]
abbrev dktX6_flags_6 : List UInt8 := dkwX6_flags_6 ++ []
def dkwX6_flags_5 : List UInt8 := [180, 0, 40, 182, 0, 50, 181, 0, 40, 167, 255, 142, 42, 42, 42, 180, 0, 43, 182, 0, 50, 181, 0, 43]
abbrev dktX6_flags_5 : List UInt8 := dkwX6_flags_5 ++ dktX6_flags_6
def dkwX6_flags_4 : List UInt8 := [181, 0, 34, 167, 255, 172, 42, 42, 42, 180, 0, 37, 182, 0, 50, 181, 0, 37, 167, 255, 157, 42, 42, 42]
abbrev dktX6_flags_4 : List UInt8 := dkwX6_flags_4 ++ dktX6_flags_5
def dkwX6_flags_3 : List UInt8 := [42, 42, 42, 180, 0, 30, 182, 0, 50, 181, 0, 30, 167, 255, 187, 42, 42, 42, 180, 0, 34, 182, 0, 50]
abbrev dktX6_flags_3 : List UInt8 := dkwX6_flags_3 ++ dktX6_flags_4
def dkwX6_flags_2 : List UInt8 := [171, 0, 0, 0, 124, 0, 0, 0, 5, 0, 0, 0, 32, 0, 0, 0, 94, 0, 0, 0, 43, 0, 0, 0, 79, 0, 0, 0, 44, 0, 0, 0, 109, 0, 0, 0, 45, 0, 0, 0, 49, 0, 0, 0, 48, 0, 0, 0, 64]
abbrev dktX6_flags_2 : List UInt8 := dkwX6_flags_2 ++ dktX6_flags_3
def dkwX6_flags_1 : List UInt8 := [181, 0, 43, 4, 60, 27, 153, 0, 136, 42, 182, 0, 46]
abbrev dktX6_flags_1 : List UInt8 := dkwX6_flags_1 ++ dktX6_flags_2
def dkwX6_flags_0 : List UInt8 := [42, 3, 181, 0, 30, 42, 3, 181, 0, 34, 42, 3, 181, 0, 37, 42, 3, 181, 0, 40, 42, 3]
abbrev dktX6_flags_0 : List UInt8 := dkwX6_flags_0 ++ dktX6_flags_1
theorem dksX6_flags_0 : cX6_flags.data.toList.drop 0 = dktX6_flags_0 := by decide +kernel
theorem dksX6_flags_1 : cX6_flags.data.toList.drop 22 = dktX6_flags_1 := dk_seg dksX6_flags_0 22 rfl rfl
theorem dksX6_flags_2 : cX6_flags.data.toList.drop 35 = dktX6_flags_2 := dk_seg dksX6_flags_1 13 rfl rfl
theorem dksX6_flags_3 : cX6_flags.data.toList.drop 84 = dktX6_flags_3 := dk_seg dksX6_flags_2 49 rfl rfl
theorem dksX6_flags_4 : cX6_flags.data.toList.drop 108 = dktX6_flags_4 := dk_seg dksX6_flags_3 24 rfl rfl
theorem dksX6_flags_5 : cX6_flags.data.toList.drop 132 = dktX6_flags_5 := dk_seg dksX6_flags_4 24 rfl rfl
theorem dksX6_flags_6 : cX6_flags.data.toList.drop 156 = dktX6_flags_6 := dk_seg dksX6_flags_5 24 rfl rfl
theorem dX6_flags_0 : decode cX6_flags 0 = .ok (.aload_n 0, 1) := dk_42 (dk_at dksX6_flags_0 0 rfl rfl)
theorem dX6_flags_1 : decode cX6_flags 1 = .ok (.iconst 0, 1) := dk_3 (dk_at dksX6_flags_0 1 rfl rfl)
theorem dX6_flags_2 : decode cX6_flags 2 = .ok (.putfield 30, 3) := dk_181 0 30 (dk_at dksX6_flags_0 2 rfl rfl)
theorem dX6_flags_5 : decode cX6_flags 5 = .ok (.aload_n 0, 1) := dk_42 (dk_at dksX6_flags_0 5 rfl rfl)
theorem dX6_flags_6 : decode cX6_flags 6 = .ok (.iconst 0, 1) := dk_3 (dk_at dksX6_flags_0 6 rfl rfl)
theorem dX6_flags_7 : decode cX6_flags 7 = .ok (.putfield 34, 3) := dk_181 0 34 (dk_at dksX6_flags_0 7 rfl rfl)
theorem dX6_flags_10 : decode cX6_flags 10 = .ok (.aload_n 0, 1) := dk_42 (dk_at dksX6_flags_0 10 rfl rfl)
theorem dX6_flags_11 : decode cX6_flags 11 = .ok (.iconst 0, 1) := dk_3 (dk_at dksX6_flags_0 11 rfl rfl)
theorem dX6_flags_12 : decode cX6_flags 12 = .ok (.putfield 37, 3) := dk_181 0 37 (dk_at dksX6_flags_0 12 rfl rfl)
theorem dX6_flags_15 : decode cX6_flags 15 = .ok (.aload_n 0, 1) := dk_42 (dk_at dksX6_flags_0 15 rfl rfl)
theorem dX6_flags_16 : decode cX6_flags 16 = .ok (.iconst 0, 1) := dk_3 (dk_at dksX6_flags_0 16 rfl rfl)
theorem dX6_flags_17 : decode cX6_flags 17 = .ok (.putfield 40, 3) := dk_181 0 40 (dk_at dksX6_flags_0 17 rfl rfl)
theorem dX6_flags_20 : decode cX6_flags 20 = .ok (.aload_n 0, 1) := dk_42 (dk_at dksX6_flags_0 20 rfl rfl)
theorem dX6_flags_21 : decode cX6_flags 21 = .ok (.iconst 0, 1) := dk_3 (dk_at dksX6_flags_0 21 rfl rfl)
theorem dX6_flags_22 : decode cX6_flags 22 = .ok (.putfield 43, 3) := dk_181 0 43 (dk_at dksX6_flags_1 0 rfl rfl)
theorem dX6_flags_25 : decode cX6_flags 25 = .ok (.iconst 1, 1) := dk_4 (dk_at dksX6_flags_1 3 rfl rfl)
theorem dX6_flags_26 : decode cX6_flags 26 = .ok (.istore_n 1, 1) := dk_60 (dk_at dksX6_flags_1 4 rfl rfl)
theorem dX6_flags_27 : decode cX6_flags 27 = .ok (.iload_n 1, 1) := dk_27 (dk_at dksX6_flags_1 5 rfl rfl)
theorem dX6_flags_28 : decode cX6_flags 28 = .ok (.ifCond .eq 136, 3) := dk_153 0 136 (dk_at dksX6_flags_1 6 rfl rfl)
theorem dX6_flags_31 : decode cX6_flags 31 = .ok (.aload_n 0, 1) := dk_42 (dk_at dksX6_flags_1 9 rfl rfl)
theorem dX6_flags_32 : decode cX6_flags 32 = .ok (.invokevirtual 46, 3) := dk_182 0 46 (dk_at dksX6_flags_1 10 rfl rfl)
theorem dX6_flags_35 : decode cX6_flags 35 = .ok (.lookupswitch 124 #[(32, 94), (43, 79), (44, 109), (45, 49), (48, 64)], 49) := by decide +kernel
theorem dX6_flags_84 : decode cX6_flags 84 = .ok (.aload_n 0, 1) := dk_42 (dk_at dksX6_flags_3 0 rfl rfl)
theorem dX6_flags_85 : decode cX6_flags 85 = .ok (.aload_n 0, 1) := dk_42 (dk_at dksX6_flags_3 1 rfl rfl)
theorem dX6_flags_86 : decode cX6_flags 86 = .ok (.aload_n 0, 1) := dk_42 (dk_at dksX6_flags_3 2 rfl rfl)
theorem dX6_flags_87 : decode cX6_flags 87 = .ok (.getfield 30, 3) := dk_180 0 30 (dk_at dksX6_flags_3 3 rfl rfl)
theorem dX6_flags_90 : decode cX6_flags 90 = .ok (.invokevirtual 50, 3) := dk_182 0 50 (dk_at dksX6_flags_3 6 rfl rfl)
theorem dX6_flags_93 : decode cX6_flags 93 = .ok (.putfield 30, 3) := dk_181 0 30 (dk_at dksX6_flags_3 9 rfl rfl)
theorem dX6_flags_96 : decode cX6_flags 96 = .ok (.goto (-69), 3) := dk_167 255 187 (dk_at dksX6_flags_3 12 rfl rfl)
theorem dX6_flags_99 : decode cX6_flags 99 = .ok (.aload_n 0, 1) := dk_42 (dk_at dksX6_flags_3 15 rfl rfl)
theorem dX6_flags_100 : decode cX6_flags 100 = .ok (.aload_n 0, 1) := dk_42 (dk_at dksX6_flags_3 16 rfl rfl)
theorem dX6_flags_101 : decode cX6_flags 101 = .ok (.aload_n 0, 1) := dk_42 (dk_at dksX6_flags_3 17 rfl rfl)
theorem dX6_flags_102 : decode cX6_flags 102 = .ok (.getfield 34, 3) := dk_180 0 34 (dk_at dksX6_flags_3 18 rfl rfl)
theorem dX6_flags_105 : decode cX6_flags 105 = .ok (.invokevirtual 50, 3) := dk_182 0 50 (dk_at dksX6_flags_3 21 rfl rfl)
theorem dX6_flags_108 : decode cX6_flags 108 = .ok (.putfield 34, 3) := dk_181 0 34 (dk_at dksX6_flags_4 0 rfl rfl)
theorem dX6_flags_111 : decode cX6_flags 111 = .ok (.goto (-84), 3) := dk_167 255 172 (dk_at dksX6_flags_4 3 rfl rfl)
theorem dX6_flags_114 : decode cX6_flags 114 = .ok (.aload_n 0, 1) := dk_42 (dk_at dksX6_flags_4 6 rfl rfl)
theorem dX6_flags_115 : decode cX6_flags 115 = .ok (.aload_n 0, 1) := dk_42 (dk_at dksX6_flags_4 7 rfl rfl)
theorem dX6_flags_116 : decode cX6_flags 116 = .ok (.aload_n 0, 1) := dk_42 (dk_at dksX6_flags_4 8 rfl rfl)
theorem dX6_flags_117 : decode cX6_flags 117 = .ok (.getfield 37, 3) := dk_180 0 37 (dk_at dksX6_flags_4 9 rfl rfl)
theorem dX6_flags_120 : decode cX6_flags 120 = .ok (.invokevirtual 50, 3) := dk_182 0 50 (dk_at dksX6_flags_4 12 rfl rfl)
theorem dX6_flags_123 : decode cX6_flags 123 = .ok (.putfield 37, 3) := dk_181 0 37 (dk_at dksX6_flags_4 15 rfl rfl)
theorem dX6_flags_126 : decode cX6_flags 126 = .ok (.goto (-99), 3) := dk_167 255 157 (dk_at dksX6_flags_4 18 rfl rfl)
theorem dX6_flags_129 : decode cX6_flags 129 = .ok (.aload_n 0, 1) := dk_42 (dk_at dksX6_flags_4 21 rfl rfl)
theorem dX6_flags_130 : decode cX6_flags 130 = .ok (.aload_n 0, 1) := dk_42 (dk_at dksX6_flags_4 22 rfl rfl)
theorem dX6_flags_131 : decode cX6_flags 131 = .ok (.aload_n 0, 1) := dk_42 (dk_at dksX6_flags_4 23 rfl rfl)
theorem dX6_flags_132 : decode cX6_flags 132 = .ok (.getfield 40, 3) := dk_180 0 40 (dk_at dksX6_flags_5 0 rfl rfl)
theorem dX6_flags_135 : decode cX6_flags 135 = .ok (.invokevirtual 50, 3) := dk_182 0 50 (dk_at dksX6_flags_5 3 rfl rfl)
theorem dX6_flags_138 : decode cX6_flags 138 = .ok (.putfield 40, 3) := dk_181 0 40 (dk_at dksX6_flags_5 6 rfl rfl)
theorem dX6_flags_141 : decode cX6_flags 141 = .ok (.goto (-114), 3) := dk_167 255 142 (dk_at dksX6_flags_5 9 rfl rfl)
theorem dX6_flags_144 : decode cX6_flags 144 = .ok (.aload_n 0, 1) := dk_42 (dk_at dksX6_flags_5 12 rfl rfl)
theorem dX6_flags_145 : decode cX6_flags 145 = .ok (.aload_n 0, 1) := dk_42 (dk_at dksX6_flags_5 13 rfl rfl)
theorem dX6_flags_146 : decode cX6_flags 146 = .ok (.aload_n 0, 1) := dk_42 (dk_at dksX6_flags_5 14 rfl rfl)
theorem dX6_flags_147 : decode cX6_flags 147 = .ok (.getfield 43, 3) := dk_180 0 43 (dk_at dksX6_flags_5 15 rfl rfl)
theorem dX6_flags_150 : decode cX6_flags 150 = .ok (.invokevirtual 50, 3) := dk_182 0 50 (dk_at dksX6_flags_5 18 rfl rfl)
theorem dX6_flags_153 : decode cX6_flags 153 = .ok (.putfield 43, 3) := dk_181 0 43 (dk_at dksX6_flags_5 21 rfl rfl)
theorem dX6_flags_156 : decode cX6_flags 156 = .ok (.goto (-129), 3) := dk_167 255 127 (dk_at dksX6_flags_6 0 rfl rfl)
theorem dX6_flags_159 : decode cX6_flags 159 = .ok (.iconst 0, 1) := dk_3 (dk_at dksX6_flags_6 3 rfl rfl)
theorem dX6_flags_160 : decode cX6_flags 160 = .ok (.istore_n 1, 1) := dk_60 (dk_at dksX6_flags_6 4 rfl rfl)
theorem dX6_flags_161 : decode cX6_flags 161 = .ok (.goto (-134), 3) := dk_167 255 122 (dk_at dksX6_flags_6 5 rfl rfl)
theorem dX6_flags_164 : decode cX6_flags 164 = .ok (.return_, 1) := dk_177 (dk_at dksX6_flags_6 8 rfl rfl)
abbrev cX6_look : ByteArray := prog_9_method_2_code
def yX6_look : MethodName := ⟨RX6, "look", "()I"⟩
def dkwX6_look_1 : List UInt8 := [172]
abbrev dktX6_look_1 : List UInt8 := dkwX6_look_1 ++ []
def dkwX6_look_0 : List UInt8 := [42, 180, 0, 15, 42, 180, 0, 19, 162, 0, 15, 42, 180, 0, 22, 42, 180, 0, 15, 51, 167, 0, 4, 2]
abbrev dktX6_look_0 : List UInt8 := dkwX6_look_0 ++ dktX6_look_1
theorem dksX6_look_0 : cX6_look.data.toList.drop 0 = dktX6_look_0 := by decide +kernel
theorem dksX6_look_1 : cX6_look.data.toList.drop 24 = dktX6_look_1 := dk_seg dksX6_look_0 24 rfl rfl
theorem dX6_look_0 : decode cX6_look 0 = .ok (.aload_n 0, 1) := dk_42 (dk_at dksX6_look_0 0 rfl rfl)
theorem dX6_look_1 : decode cX6_look 1 = .ok (.getfield 15, 3) := dk_180 0 15 (dk_at dksX6_look_0 1 rfl rfl)
theorem dX6_look_4 : decode cX6_look 4 = .ok (.aload_n 0, 1) := dk_42 (dk_at dksX6_look_0 4 rfl rfl)
theorem dX6_look_5 : decode cX6_look 5 = .ok (.getfield 19, 3) := dk_180 0 19 (dk_at dksX6_look_0 5 rfl rfl)
theorem dX6_look_8 : decode cX6_look 8 = .ok (.if_icmp .ge 15, 3) := dk_162 0 15 (dk_at dksX6_look_0 8 rfl rfl)
theorem dX6_look_11 : decode cX6_look 11 = .ok (.aload_n 0, 1) := dk_42 (dk_at dksX6_look_0 11 rfl rfl)
theorem dX6_look_12 : decode cX6_look 12 = .ok (.getfield 22, 3) := dk_180 0 22 (dk_at dksX6_look_0 12 rfl rfl)
theorem dX6_look_15 : decode cX6_look 15 = .ok (.aload_n 0, 1) := dk_42 (dk_at dksX6_look_0 15 rfl rfl)
theorem dX6_look_16 : decode cX6_look 16 = .ok (.getfield 15, 3) := dk_180 0 15 (dk_at dksX6_look_0 16 rfl rfl)
theorem dX6_look_19 : decode cX6_look 19 = .ok (.baload, 1) := dk_51 (dk_at dksX6_look_0 19 rfl rfl)
theorem dX6_look_20 : decode cX6_look 20 = .ok (.goto 4, 3) := dk_167 0 4 (dk_at dksX6_look_0 20 rfl rfl)
theorem dX6_look_23 : decode cX6_look 23 = .ok (.iconst (-1), 1) := dk_2 (dk_at dksX6_look_0 23 rfl rfl)
theorem dX6_look_24 : decode cX6_look 24 = .ok (.ireturn, 1) := dk_172 (dk_at dksX6_look_1 0 rfl rfl)
abbrev cX6_flag : ByteArray := prog_9_method_4_code
def yX6_flag : MethodName := ⟨RX6, "flag", "(Z)Z"⟩
def dkwX6_flag_1 : List UInt8 := [181, 0, 15, 4, 172]
abbrev dktX6_flag_1 : List UInt8 := dkwX6_flag_1 ++ []
def dkwX6_flag_0 : List UInt8 := [27, 153, 0, 15, 187, 0, 25, 89, 42, 180, 0, 15, 183, 0, 27, 191, 42, 89, 180, 0, 15, 4, 96]
abbrev dktX6_flag_0 : List UInt8 := dkwX6_flag_0 ++ dktX6_flag_1
theorem dksX6_flag_0 : cX6_flag.data.toList.drop 0 = dktX6_flag_0 := by decide +kernel
theorem dksX6_flag_1 : cX6_flag.data.toList.drop 23 = dktX6_flag_1 := dk_seg dksX6_flag_0 23 rfl rfl
theorem dX6_flag_0 : decode cX6_flag 0 = .ok (.iload_n 1, 1) := dk_27 (dk_at dksX6_flag_0 0 rfl rfl)
theorem dX6_flag_1 : decode cX6_flag 1 = .ok (.ifCond .eq 15, 3) := dk_153 0 15 (dk_at dksX6_flag_0 1 rfl rfl)
theorem dX6_flag_4 : decode cX6_flag 4 = .ok (.new 25, 3) := dk_187 0 25 (dk_at dksX6_flag_0 4 rfl rfl)
theorem dX6_flag_7 : decode cX6_flag 7 = .ok (.dup, 1) := dk_89 (dk_at dksX6_flag_0 7 rfl rfl)
theorem dX6_flag_8 : decode cX6_flag 8 = .ok (.aload_n 0, 1) := dk_42 (dk_at dksX6_flag_0 8 rfl rfl)
theorem dX6_flag_9 : decode cX6_flag 9 = .ok (.getfield 15, 3) := dk_180 0 15 (dk_at dksX6_flag_0 9 rfl rfl)
theorem dX6_flag_12 : decode cX6_flag 12 = .ok (.invokespecial 27, 3) := dk_183 0 27 (dk_at dksX6_flag_0 12 rfl rfl)
theorem dX6_flag_15 : decode cX6_flag 15 = .ok (.athrow, 1) := dk_191 (dk_at dksX6_flag_0 15 rfl rfl)
theorem dX6_flag_16 : decode cX6_flag 16 = .ok (.aload_n 0, 1) := dk_42 (dk_at dksX6_flag_0 16 rfl rfl)
theorem dX6_flag_17 : decode cX6_flag 17 = .ok (.dup, 1) := dk_89 (dk_at dksX6_flag_0 17 rfl rfl)
theorem dX6_flag_18 : decode cX6_flag 18 = .ok (.getfield 15, 3) := dk_180 0 15 (dk_at dksX6_flag_0 18 rfl rfl)
theorem dX6_flag_21 : decode cX6_flag 21 = .ok (.iconst 1, 1) := dk_4 (dk_at dksX6_flag_0 21 rfl rfl)
theorem dX6_flag_22 : decode cX6_flag 22 = .ok (.iadd, 1) := dk_96 (dk_at dksX6_flag_0 22 rfl rfl)
theorem dX6_flag_23 : decode cX6_flag 23 = .ok (.putfield 15, 3) := dk_181 0 15 (dk_at dksX6_flag_1 0 rfl rfl)
theorem dX6_flag_26 : decode cX6_flag 26 = .ok (.iconst 1, 1) := dk_4 (dk_at dksX6_flag_1 3 rfl rfl)
theorem dX6_flag_27 : decode cX6_flag 27 = .ok (.ireturn, 1) := dk_172 (dk_at dksX6_flag_1 4 rfl rfl)
abbrev cX6_number : ByteArray := prog_9_method_6_code
def yX6_number : MethodName := ⟨RX6, "numbe\x72", "()I"⟩
def dkwX6_number_2 : List UInt8 := [27, 172]
abbrev dktX6_number_2 : List UInt8 := dkwX6_number_2 ++ []
def dkwX6_number_1 : List UInt8 := [182, 0, 46, 96, 16, 48, 100, 60, 42, 89, 180, 0, 15, 4, 96, 181, 0, 15, 132, 2, 1, 167, 255, 215]
abbrev dktX6_number_1 : List UInt8 := dkwX6_number_1 ++ dktX6_number_2
def dkwX6_number_0 : List UInt8 := [3, 60, 3, 61, 28, 5, 162, 0, 42, 42, 182, 0, 46, 184, 0, 54, 153, 0, 32, 16, 10, 27, 104, 42]
abbrev dktX6_number_0 : List UInt8 := dkwX6_number_0 ++ dktX6_number_1
theorem dksX6_number_0 : cX6_number.data.toList.drop 0 = dktX6_number_0 := by decide +kernel
theorem dksX6_number_1 : cX6_number.data.toList.drop 24 = dktX6_number_1 := dk_seg dksX6_number_0 24 rfl rfl
theorem dksX6_number_2 : cX6_number.data.toList.drop 48 = dktX6_number_2 := dk_seg dksX6_number_1 24 rfl rfl
theorem dX6_number_0 : decode cX6_number 0 = .ok (.iconst 0, 1) := dk_3 (dk_at dksX6_number_0 0 rfl rfl)
theorem dX6_number_1 : decode cX6_number 1 = .ok (.istore_n 1, 1) := dk_60 (dk_at dksX6_number_0 1 rfl rfl)
theorem dX6_number_2 : decode cX6_number 2 = .ok (.iconst 0, 1) := dk_3 (dk_at dksX6_number_0 2 rfl rfl)
theorem dX6_number_3 : decode cX6_number 3 = .ok (.istore_n 2, 1) := dk_61 (dk_at dksX6_number_0 3 rfl rfl)
theorem dX6_number_4 : decode cX6_number 4 = .ok (.iload_n 2, 1) := dk_28 (dk_at dksX6_number_0 4 rfl rfl)
theorem dX6_number_5 : decode cX6_number 5 = .ok (.iconst 2, 1) := dk_5 (dk_at dksX6_number_0 5 rfl rfl)
theorem dX6_number_6 : decode cX6_number 6 = .ok (.if_icmp .ge 42, 3) := dk_162 0 42 (dk_at dksX6_number_0 6 rfl rfl)
theorem dX6_number_9 : decode cX6_number 9 = .ok (.aload_n 0, 1) := dk_42 (dk_at dksX6_number_0 9 rfl rfl)
theorem dX6_number_10 : decode cX6_number 10 = .ok (.invokevirtual 46, 3) := dk_182 0 46 (dk_at dksX6_number_0 10 rfl rfl)
theorem dX6_number_13 : decode cX6_number 13 = .ok (.invokestatic 54, 3) := dk_184 0 54 (dk_at dksX6_number_0 13 rfl rfl)
theorem dX6_number_16 : decode cX6_number 16 = .ok (.ifCond .eq 32, 3) := dk_153 0 32 (dk_at dksX6_number_0 16 rfl rfl)
theorem dX6_number_19 : decode cX6_number 19 = .ok (.bipush 10, 2) := dk_16 10 (dk_at dksX6_number_0 19 rfl rfl)
theorem dX6_number_21 : decode cX6_number 21 = .ok (.iload_n 1, 1) := dk_27 (dk_at dksX6_number_0 21 rfl rfl)
theorem dX6_number_22 : decode cX6_number 22 = .ok (.imul, 1) := dk_104 (dk_at dksX6_number_0 22 rfl rfl)
theorem dX6_number_23 : decode cX6_number 23 = .ok (.aload_n 0, 1) := dk_42 (dk_at dksX6_number_0 23 rfl rfl)
theorem dX6_number_24 : decode cX6_number 24 = .ok (.invokevirtual 46, 3) := dk_182 0 46 (dk_at dksX6_number_1 0 rfl rfl)
theorem dX6_number_27 : decode cX6_number 27 = .ok (.iadd, 1) := dk_96 (dk_at dksX6_number_1 3 rfl rfl)
theorem dX6_number_28 : decode cX6_number 28 = .ok (.bipush 48, 2) := dk_16 48 (dk_at dksX6_number_1 4 rfl rfl)
theorem dX6_number_30 : decode cX6_number 30 = .ok (.isub, 1) := dk_100 (dk_at dksX6_number_1 6 rfl rfl)
theorem dX6_number_31 : decode cX6_number 31 = .ok (.istore_n 1, 1) := dk_60 (dk_at dksX6_number_1 7 rfl rfl)
theorem dX6_number_32 : decode cX6_number 32 = .ok (.aload_n 0, 1) := dk_42 (dk_at dksX6_number_1 8 rfl rfl)
theorem dX6_number_33 : decode cX6_number 33 = .ok (.dup, 1) := dk_89 (dk_at dksX6_number_1 9 rfl rfl)
theorem dX6_number_34 : decode cX6_number 34 = .ok (.getfield 15, 3) := dk_180 0 15 (dk_at dksX6_number_1 10 rfl rfl)
theorem dX6_number_37 : decode cX6_number 37 = .ok (.iconst 1, 1) := dk_4 (dk_at dksX6_number_1 13 rfl rfl)
theorem dX6_number_38 : decode cX6_number 38 = .ok (.iadd, 1) := dk_96 (dk_at dksX6_number_1 14 rfl rfl)
theorem dX6_number_39 : decode cX6_number 39 = .ok (.putfield 15, 3) := dk_181 0 15 (dk_at dksX6_number_1 15 rfl rfl)
theorem dX6_number_42 : decode cX6_number 42 = .ok (.iinc 2 1, 3) := dk_132 2 1 (dk_at dksX6_number_1 18 rfl rfl)
theorem dX6_number_45 : decode cX6_number 45 = .ok (.goto (-41), 3) := dk_167 255 215 (dk_at dksX6_number_1 21 rfl rfl)
theorem dX6_number_48 : decode cX6_number 48 = .ok (.iload_n 1, 1) := dk_27 (dk_at dksX6_number_2 0 rfl rfl)
theorem dX6_number_49 : decode cX6_number 49 = .ok (.ireturn, 1) := dk_172 (dk_at dksX6_number_2 1 rfl rfl)
abbrev cX6_isDigit : ByteArray := prog_9_method_3_code
def yX6_isDigit : MethodName := ⟨RX6, "isDigit", "(I)Z"⟩
def dkwX6_isDigit_0 : List UInt8 := [26, 16, 48, 161, 0, 13, 26, 16, 57, 163, 0, 7, 4, 167, 0, 4, 3, 172]
abbrev dktX6_isDigit_0 : List UInt8 := dkwX6_isDigit_0 ++ []
theorem dksX6_isDigit_0 : cX6_isDigit.data.toList.drop 0 = dktX6_isDigit_0 := by decide +kernel
theorem dX6_isDigit_0 : decode cX6_isDigit 0 = .ok (.iload_n 0, 1) := dk_26 (dk_at dksX6_isDigit_0 0 rfl rfl)
theorem dX6_isDigit_1 : decode cX6_isDigit 1 = .ok (.bipush 48, 2) := dk_16 48 (dk_at dksX6_isDigit_0 1 rfl rfl)
theorem dX6_isDigit_3 : decode cX6_isDigit 3 = .ok (.if_icmp .lt 13, 3) := dk_161 0 13 (dk_at dksX6_isDigit_0 3 rfl rfl)
theorem dX6_isDigit_6 : decode cX6_isDigit 6 = .ok (.iload_n 0, 1) := dk_26 (dk_at dksX6_isDigit_0 6 rfl rfl)
theorem dX6_isDigit_7 : decode cX6_isDigit 7 = .ok (.bipush 57, 2) := dk_16 57 (dk_at dksX6_isDigit_0 7 rfl rfl)
theorem dX6_isDigit_9 : decode cX6_isDigit 9 = .ok (.if_icmp .gt 7, 3) := dk_163 0 7 (dk_at dksX6_isDigit_0 9 rfl rfl)
theorem dX6_isDigit_12 : decode cX6_isDigit 12 = .ok (.iconst 1, 1) := dk_4 (dk_at dksX6_isDigit_0 12 rfl rfl)
theorem dX6_isDigit_13 : decode cX6_isDigit 13 = .ok (.goto 4, 3) := dk_167 0 4 (dk_at dksX6_isDigit_0 13 rfl rfl)
theorem dX6_isDigit_16 : decode cX6_isDigit 16 = .ok (.iconst 0, 1) := dk_3 (dk_at dksX6_isDigit_0 16 rfl rfl)
theorem dX6_isDigit_17 : decode cX6_isDigit 17 = .ok (.ireturn, 1) := dk_172 (dk_at dksX6_isDigit_0 17 rfl rfl)
abbrev cX6_isOdd : ByteArray := prog_9_method_8_code
def yX6_isOdd : MethodName := ⟨RX6, "isOdd", "()Z"⟩
def dkwX6_isOdd_8 : List UInt8 := [154, 0, 17, 42, 180, 0, 40, 154, 0, 10, 42, 180, 0, 43, 153, 0, 7, 4, 167, 0, 4, 3, 172]
abbrev dktX6_isOdd_8 : List UInt8 := dkwX6_isOdd_8 ++ []
def dkwX6_isOdd_7 : List UInt8 := [180, 0, 70, 16, 115, 160, 0, 5, 27, 172, 42, 180, 0, 70, 16, 100, 159, 0, 28, 42, 180, 0, 37]
abbrev dktX6_isOdd_7 : List UInt8 := dkwX6_isOdd_7 ++ dktX6_isOdd_8
def dkwX6_isOdd_6 : List UInt8 := [167, 0, 4, 3, 172, 42, 180, 0, 70, 16, 99, 159, 0, 21, 42, 180, 0, 70, 16, 98, 159, 0, 12, 42]
abbrev dktX6_isOdd_6 : List UInt8 := dkwX6_isOdd_6 ++ dktX6_isOdd_7
def dkwX6_isOdd_5 : List UInt8 := [16, 37, 160, 0, 27, 27, 154, 0, 17, 42, 180, 0, 30, 154, 0, 10, 42, 180, 0, 64, 158, 0, 7, 4]
abbrev dktX6_isOdd_5 : List UInt8 := dkwX6_isOdd_5 ++ dktX6_isOdd_6
def dkwX6_isOdd_4 : List UInt8 := [42, 180, 0, 40, 154, 0, 10, 42, 180, 0, 43, 153, 0, 7, 4, 167, 0, 4, 3, 60, 42, 180, 0, 70]
abbrev dktX6_isOdd_4 : List UInt8 := dkwX6_isOdd_4 ++ dktX6_isOdd_5
def dkwX6_isOdd_3 : List UInt8 := [180, 0, 70, 16, 115, 159, 0, 5, 4, 172, 42, 180, 0, 34, 154, 0, 24, 42, 180, 0, 37, 154, 0, 17]
abbrev dktX6_isOdd_3 : List UInt8 := dkwX6_isOdd_3 ++ dktX6_isOdd_4
def dkwX6_isOdd_2 : List UInt8 := [154, 0, 5, 4, 172, 42, 180, 0, 67, 155, 0, 23, 42, 180, 0, 70, 16, 98, 159, 0, 14, 42]
abbrev dktX6_isOdd_2 : List UInt8 := dkwX6_isOdd_2 ++ dktX6_isOdd_3
def dkwX6_isOdd_1 : List UInt8 := [180, 0, 40, 154, 0, 24, 42, 180, 0, 30, 154, 0, 10, 42, 180, 0, 34, 153, 0, 12, 42, 180, 0, 64]
abbrev dktX6_isOdd_1 : List UInt8 := dkwX6_isOdd_1 ++ dktX6_isOdd_2
def dkwX6_isOdd_0 : List UInt8 := [42, 180, 0, 30, 153, 0, 10, 42, 180, 0, 34, 154, 0, 38, 42, 180, 0, 37, 153, 0, 10, 42]
abbrev dktX6_isOdd_0 : List UInt8 := dkwX6_isOdd_0 ++ dktX6_isOdd_1
theorem dksX6_isOdd_0 : cX6_isOdd.data.toList.drop 0 = dktX6_isOdd_0 := by decide +kernel
theorem dksX6_isOdd_1 : cX6_isOdd.data.toList.drop 22 = dktX6_isOdd_1 := dk_seg dksX6_isOdd_0 22 rfl rfl
theorem dksX6_isOdd_2 : cX6_isOdd.data.toList.drop 46 = dktX6_isOdd_2 := dk_seg dksX6_isOdd_1 24 rfl rfl
theorem dksX6_isOdd_3 : cX6_isOdd.data.toList.drop 68 = dktX6_isOdd_3 := dk_seg dksX6_isOdd_2 22 rfl rfl
theorem dksX6_isOdd_4 : cX6_isOdd.data.toList.drop 92 = dktX6_isOdd_4 := dk_seg dksX6_isOdd_3 24 rfl rfl
theorem dksX6_isOdd_5 : cX6_isOdd.data.toList.drop 116 = dktX6_isOdd_5 := dk_seg dksX6_isOdd_4 24 rfl rfl
theorem dksX6_isOdd_6 : cX6_isOdd.data.toList.drop 140 = dktX6_isOdd_6 := dk_seg dksX6_isOdd_5 24 rfl rfl
theorem dksX6_isOdd_7 : cX6_isOdd.data.toList.drop 164 = dktX6_isOdd_7 := dk_seg dksX6_isOdd_6 24 rfl rfl
theorem dksX6_isOdd_8 : cX6_isOdd.data.toList.drop 187 = dktX6_isOdd_8 := dk_seg dksX6_isOdd_7 23 rfl rfl
theorem dX6_isOdd_0 : decode cX6_isOdd 0 = .ok (.aload_n 0, 1) := dk_42 (dk_at dksX6_isOdd_0 0 rfl rfl)
theorem dX6_isOdd_1 : decode cX6_isOdd 1 = .ok (.getfield 30, 3) := dk_180 0 30 (dk_at dksX6_isOdd_0 1 rfl rfl)
theorem dX6_isOdd_4 : decode cX6_isOdd 4 = .ok (.ifCond .eq 10, 3) := dk_153 0 10 (dk_at dksX6_isOdd_0 4 rfl rfl)
theorem dX6_isOdd_7 : decode cX6_isOdd 7 = .ok (.aload_n 0, 1) := dk_42 (dk_at dksX6_isOdd_0 7 rfl rfl)
theorem dX6_isOdd_8 : decode cX6_isOdd 8 = .ok (.getfield 34, 3) := dk_180 0 34 (dk_at dksX6_isOdd_0 8 rfl rfl)
theorem dX6_isOdd_11 : decode cX6_isOdd 11 = .ok (.ifCond .ne 38, 3) := dk_154 0 38 (dk_at dksX6_isOdd_0 11 rfl rfl)
theorem dX6_isOdd_14 : decode cX6_isOdd 14 = .ok (.aload_n 0, 1) := dk_42 (dk_at dksX6_isOdd_0 14 rfl rfl)
theorem dX6_isOdd_15 : decode cX6_isOdd 15 = .ok (.getfield 37, 3) := dk_180 0 37 (dk_at dksX6_isOdd_0 15 rfl rfl)
theorem dX6_isOdd_18 : decode cX6_isOdd 18 = .ok (.ifCond .eq 10, 3) := dk_153 0 10 (dk_at dksX6_isOdd_0 18 rfl rfl)
theorem dX6_isOdd_21 : decode cX6_isOdd 21 = .ok (.aload_n 0, 1) := dk_42 (dk_at dksX6_isOdd_0 21 rfl rfl)
theorem dX6_isOdd_22 : decode cX6_isOdd 22 = .ok (.getfield 40, 3) := dk_180 0 40 (dk_at dksX6_isOdd_1 0 rfl rfl)
theorem dX6_isOdd_25 : decode cX6_isOdd 25 = .ok (.ifCond .ne 24, 3) := dk_154 0 24 (dk_at dksX6_isOdd_1 3 rfl rfl)
theorem dX6_isOdd_28 : decode cX6_isOdd 28 = .ok (.aload_n 0, 1) := dk_42 (dk_at dksX6_isOdd_1 6 rfl rfl)
theorem dX6_isOdd_29 : decode cX6_isOdd 29 = .ok (.getfield 30, 3) := dk_180 0 30 (dk_at dksX6_isOdd_1 7 rfl rfl)
theorem dX6_isOdd_32 : decode cX6_isOdd 32 = .ok (.ifCond .ne 10, 3) := dk_154 0 10 (dk_at dksX6_isOdd_1 10 rfl rfl)
theorem dX6_isOdd_35 : decode cX6_isOdd 35 = .ok (.aload_n 0, 1) := dk_42 (dk_at dksX6_isOdd_1 13 rfl rfl)
theorem dX6_isOdd_36 : decode cX6_isOdd 36 = .ok (.getfield 34, 3) := dk_180 0 34 (dk_at dksX6_isOdd_1 14 rfl rfl)
theorem dX6_isOdd_39 : decode cX6_isOdd 39 = .ok (.ifCond .eq 12, 3) := dk_153 0 12 (dk_at dksX6_isOdd_1 17 rfl rfl)
theorem dX6_isOdd_42 : decode cX6_isOdd 42 = .ok (.aload_n 0, 1) := dk_42 (dk_at dksX6_isOdd_1 20 rfl rfl)
theorem dX6_isOdd_43 : decode cX6_isOdd 43 = .ok (.getfield 64, 3) := dk_180 0 64 (dk_at dksX6_isOdd_1 21 rfl rfl)
theorem dX6_isOdd_46 : decode cX6_isOdd 46 = .ok (.ifCond .ne 5, 3) := dk_154 0 5 (dk_at dksX6_isOdd_2 0 rfl rfl)
theorem dX6_isOdd_49 : decode cX6_isOdd 49 = .ok (.iconst 1, 1) := dk_4 (dk_at dksX6_isOdd_2 3 rfl rfl)
theorem dX6_isOdd_50 : decode cX6_isOdd 50 = .ok (.ireturn, 1) := dk_172 (dk_at dksX6_isOdd_2 4 rfl rfl)
theorem dX6_isOdd_51 : decode cX6_isOdd 51 = .ok (.aload_n 0, 1) := dk_42 (dk_at dksX6_isOdd_2 5 rfl rfl)
theorem dX6_isOdd_52 : decode cX6_isOdd 52 = .ok (.getfield 67, 3) := dk_180 0 67 (dk_at dksX6_isOdd_2 6 rfl rfl)
theorem dX6_isOdd_55 : decode cX6_isOdd 55 = .ok (.ifCond .lt 23, 3) := dk_155 0 23 (dk_at dksX6_isOdd_2 9 rfl rfl)
theorem dX6_isOdd_58 : decode cX6_isOdd 58 = .ok (.aload_n 0, 1) := dk_42 (dk_at dksX6_isOdd_2 12 rfl rfl)
theorem dX6_isOdd_59 : decode cX6_isOdd 59 = .ok (.getfield 70, 3) := dk_180 0 70 (dk_at dksX6_isOdd_2 13 rfl rfl)
theorem dX6_isOdd_62 : decode cX6_isOdd 62 = .ok (.bipush 98, 2) := dk_16 98 (dk_at dksX6_isOdd_2 16 rfl rfl)
theorem dX6_isOdd_64 : decode cX6_isOdd 64 = .ok (.if_icmp .eq 14, 3) := dk_159 0 14 (dk_at dksX6_isOdd_2 18 rfl rfl)
theorem dX6_isOdd_67 : decode cX6_isOdd 67 = .ok (.aload_n 0, 1) := dk_42 (dk_at dksX6_isOdd_2 21 rfl rfl)
theorem dX6_isOdd_68 : decode cX6_isOdd 68 = .ok (.getfield 70, 3) := dk_180 0 70 (dk_at dksX6_isOdd_3 0 rfl rfl)
theorem dX6_isOdd_71 : decode cX6_isOdd 71 = .ok (.bipush 115, 2) := dk_16 115 (dk_at dksX6_isOdd_3 3 rfl rfl)
theorem dX6_isOdd_73 : decode cX6_isOdd 73 = .ok (.if_icmp .eq 5, 3) := dk_159 0 5 (dk_at dksX6_isOdd_3 5 rfl rfl)
theorem dX6_isOdd_76 : decode cX6_isOdd 76 = .ok (.iconst 1, 1) := dk_4 (dk_at dksX6_isOdd_3 8 rfl rfl)
theorem dX6_isOdd_77 : decode cX6_isOdd 77 = .ok (.ireturn, 1) := dk_172 (dk_at dksX6_isOdd_3 9 rfl rfl)
theorem dX6_isOdd_78 : decode cX6_isOdd 78 = .ok (.aload_n 0, 1) := dk_42 (dk_at dksX6_isOdd_3 10 rfl rfl)
theorem dX6_isOdd_79 : decode cX6_isOdd 79 = .ok (.getfield 34, 3) := dk_180 0 34 (dk_at dksX6_isOdd_3 11 rfl rfl)
theorem dX6_isOdd_82 : decode cX6_isOdd 82 = .ok (.ifCond .ne 24, 3) := dk_154 0 24 (dk_at dksX6_isOdd_3 14 rfl rfl)
theorem dX6_isOdd_85 : decode cX6_isOdd 85 = .ok (.aload_n 0, 1) := dk_42 (dk_at dksX6_isOdd_3 17 rfl rfl)
theorem dX6_isOdd_86 : decode cX6_isOdd 86 = .ok (.getfield 37, 3) := dk_180 0 37 (dk_at dksX6_isOdd_3 18 rfl rfl)
theorem dX6_isOdd_89 : decode cX6_isOdd 89 = .ok (.ifCond .ne 17, 3) := dk_154 0 17 (dk_at dksX6_isOdd_3 21 rfl rfl)
theorem dX6_isOdd_92 : decode cX6_isOdd 92 = .ok (.aload_n 0, 1) := dk_42 (dk_at dksX6_isOdd_4 0 rfl rfl)
theorem dX6_isOdd_93 : decode cX6_isOdd 93 = .ok (.getfield 40, 3) := dk_180 0 40 (dk_at dksX6_isOdd_4 1 rfl rfl)
theorem dX6_isOdd_96 : decode cX6_isOdd 96 = .ok (.ifCond .ne 10, 3) := dk_154 0 10 (dk_at dksX6_isOdd_4 4 rfl rfl)
theorem dX6_isOdd_99 : decode cX6_isOdd 99 = .ok (.aload_n 0, 1) := dk_42 (dk_at dksX6_isOdd_4 7 rfl rfl)
theorem dX6_isOdd_100 : decode cX6_isOdd 100 = .ok (.getfield 43, 3) := dk_180 0 43 (dk_at dksX6_isOdd_4 8 rfl rfl)
theorem dX6_isOdd_103 : decode cX6_isOdd 103 = .ok (.ifCond .eq 7, 3) := dk_153 0 7 (dk_at dksX6_isOdd_4 11 rfl rfl)
theorem dX6_isOdd_106 : decode cX6_isOdd 106 = .ok (.iconst 1, 1) := dk_4 (dk_at dksX6_isOdd_4 14 rfl rfl)
theorem dX6_isOdd_107 : decode cX6_isOdd 107 = .ok (.goto 4, 3) := dk_167 0 4 (dk_at dksX6_isOdd_4 15 rfl rfl)
theorem dX6_isOdd_110 : decode cX6_isOdd 110 = .ok (.iconst 0, 1) := dk_3 (dk_at dksX6_isOdd_4 18 rfl rfl)
theorem dX6_isOdd_111 : decode cX6_isOdd 111 = .ok (.istore_n 1, 1) := dk_60 (dk_at dksX6_isOdd_4 19 rfl rfl)
theorem dX6_isOdd_112 : decode cX6_isOdd 112 = .ok (.aload_n 0, 1) := dk_42 (dk_at dksX6_isOdd_4 20 rfl rfl)
theorem dX6_isOdd_113 : decode cX6_isOdd 113 = .ok (.getfield 70, 3) := dk_180 0 70 (dk_at dksX6_isOdd_4 21 rfl rfl)
theorem dX6_isOdd_116 : decode cX6_isOdd 116 = .ok (.bipush 37, 2) := dk_16 37 (dk_at dksX6_isOdd_5 0 rfl rfl)
theorem dX6_isOdd_118 : decode cX6_isOdd 118 = .ok (.if_icmp .ne 27, 3) := dk_160 0 27 (dk_at dksX6_isOdd_5 2 rfl rfl)
theorem dX6_isOdd_121 : decode cX6_isOdd 121 = .ok (.iload_n 1, 1) := dk_27 (dk_at dksX6_isOdd_5 5 rfl rfl)
theorem dX6_isOdd_122 : decode cX6_isOdd 122 = .ok (.ifCond .ne 17, 3) := dk_154 0 17 (dk_at dksX6_isOdd_5 6 rfl rfl)
theorem dX6_isOdd_125 : decode cX6_isOdd 125 = .ok (.aload_n 0, 1) := dk_42 (dk_at dksX6_isOdd_5 9 rfl rfl)
theorem dX6_isOdd_126 : decode cX6_isOdd 126 = .ok (.getfield 30, 3) := dk_180 0 30 (dk_at dksX6_isOdd_5 10 rfl rfl)
theorem dX6_isOdd_129 : decode cX6_isOdd 129 = .ok (.ifCond .ne 10, 3) := dk_154 0 10 (dk_at dksX6_isOdd_5 13 rfl rfl)
theorem dX6_isOdd_132 : decode cX6_isOdd 132 = .ok (.aload_n 0, 1) := dk_42 (dk_at dksX6_isOdd_5 16 rfl rfl)
theorem dX6_isOdd_133 : decode cX6_isOdd 133 = .ok (.getfield 64, 3) := dk_180 0 64 (dk_at dksX6_isOdd_5 17 rfl rfl)
theorem dX6_isOdd_136 : decode cX6_isOdd 136 = .ok (.ifCond .le 7, 3) := dk_158 0 7 (dk_at dksX6_isOdd_5 20 rfl rfl)
theorem dX6_isOdd_139 : decode cX6_isOdd 139 = .ok (.iconst 1, 1) := dk_4 (dk_at dksX6_isOdd_5 23 rfl rfl)
theorem dX6_isOdd_140 : decode cX6_isOdd 140 = .ok (.goto 4, 3) := dk_167 0 4 (dk_at dksX6_isOdd_6 0 rfl rfl)
theorem dX6_isOdd_143 : decode cX6_isOdd 143 = .ok (.iconst 0, 1) := dk_3 (dk_at dksX6_isOdd_6 3 rfl rfl)
theorem dX6_isOdd_144 : decode cX6_isOdd 144 = .ok (.ireturn, 1) := dk_172 (dk_at dksX6_isOdd_6 4 rfl rfl)
theorem dX6_isOdd_145 : decode cX6_isOdd 145 = .ok (.aload_n 0, 1) := dk_42 (dk_at dksX6_isOdd_6 5 rfl rfl)
theorem dX6_isOdd_146 : decode cX6_isOdd 146 = .ok (.getfield 70, 3) := dk_180 0 70 (dk_at dksX6_isOdd_6 6 rfl rfl)
theorem dX6_isOdd_149 : decode cX6_isOdd 149 = .ok (.bipush 99, 2) := dk_16 99 (dk_at dksX6_isOdd_6 9 rfl rfl)
theorem dX6_isOdd_151 : decode cX6_isOdd 151 = .ok (.if_icmp .eq 21, 3) := dk_159 0 21 (dk_at dksX6_isOdd_6 11 rfl rfl)
theorem dX6_isOdd_154 : decode cX6_isOdd 154 = .ok (.aload_n 0, 1) := dk_42 (dk_at dksX6_isOdd_6 14 rfl rfl)
theorem dX6_isOdd_155 : decode cX6_isOdd 155 = .ok (.getfield 70, 3) := dk_180 0 70 (dk_at dksX6_isOdd_6 15 rfl rfl)
theorem dX6_isOdd_158 : decode cX6_isOdd 158 = .ok (.bipush 98, 2) := dk_16 98 (dk_at dksX6_isOdd_6 18 rfl rfl)
theorem dX6_isOdd_160 : decode cX6_isOdd 160 = .ok (.if_icmp .eq 12, 3) := dk_159 0 12 (dk_at dksX6_isOdd_6 20 rfl rfl)
theorem dX6_isOdd_163 : decode cX6_isOdd 163 = .ok (.aload_n 0, 1) := dk_42 (dk_at dksX6_isOdd_6 23 rfl rfl)
theorem dX6_isOdd_164 : decode cX6_isOdd 164 = .ok (.getfield 70, 3) := dk_180 0 70 (dk_at dksX6_isOdd_7 0 rfl rfl)
theorem dX6_isOdd_167 : decode cX6_isOdd 167 = .ok (.bipush 115, 2) := dk_16 115 (dk_at dksX6_isOdd_7 3 rfl rfl)
theorem dX6_isOdd_169 : decode cX6_isOdd 169 = .ok (.if_icmp .ne 5, 3) := dk_160 0 5 (dk_at dksX6_isOdd_7 5 rfl rfl)
theorem dX6_isOdd_172 : decode cX6_isOdd 172 = .ok (.iload_n 1, 1) := dk_27 (dk_at dksX6_isOdd_7 8 rfl rfl)
theorem dX6_isOdd_173 : decode cX6_isOdd 173 = .ok (.ireturn, 1) := dk_172 (dk_at dksX6_isOdd_7 9 rfl rfl)
theorem dX6_isOdd_174 : decode cX6_isOdd 174 = .ok (.aload_n 0, 1) := dk_42 (dk_at dksX6_isOdd_7 10 rfl rfl)
theorem dX6_isOdd_175 : decode cX6_isOdd 175 = .ok (.getfield 70, 3) := dk_180 0 70 (dk_at dksX6_isOdd_7 11 rfl rfl)
theorem dX6_isOdd_178 : decode cX6_isOdd 178 = .ok (.bipush 100, 2) := dk_16 100 (dk_at dksX6_isOdd_7 14 rfl rfl)
theorem dX6_isOdd_180 : decode cX6_isOdd 180 = .ok (.if_icmp .eq 28, 3) := dk_159 0 28 (dk_at dksX6_isOdd_7 16 rfl rfl)
theorem dX6_isOdd_183 : decode cX6_isOdd 183 = .ok (.aload_n 0, 1) := dk_42 (dk_at dksX6_isOdd_7 19 rfl rfl)
theorem dX6_isOdd_184 : decode cX6_isOdd 184 = .ok (.getfield 37, 3) := dk_180 0 37 (dk_at dksX6_isOdd_7 20 rfl rfl)
theorem dX6_isOdd_187 : decode cX6_isOdd 187 = .ok (.ifCond .ne 17, 3) := dk_154 0 17 (dk_at dksX6_isOdd_8 0 rfl rfl)
theorem dX6_isOdd_190 : decode cX6_isOdd 190 = .ok (.aload_n 0, 1) := dk_42 (dk_at dksX6_isOdd_8 3 rfl rfl)
theorem dX6_isOdd_191 : decode cX6_isOdd 191 = .ok (.getfield 40, 3) := dk_180 0 40 (dk_at dksX6_isOdd_8 4 rfl rfl)
theorem dX6_isOdd_194 : decode cX6_isOdd 194 = .ok (.ifCond .ne 10, 3) := dk_154 0 10 (dk_at dksX6_isOdd_8 7 rfl rfl)
theorem dX6_isOdd_197 : decode cX6_isOdd 197 = .ok (.aload_n 0, 1) := dk_42 (dk_at dksX6_isOdd_8 10 rfl rfl)
theorem dX6_isOdd_198 : decode cX6_isOdd 198 = .ok (.getfield 43, 3) := dk_180 0 43 (dk_at dksX6_isOdd_8 11 rfl rfl)
theorem dX6_isOdd_201 : decode cX6_isOdd 201 = .ok (.ifCond .eq 7, 3) := dk_153 0 7 (dk_at dksX6_isOdd_8 14 rfl rfl)
theorem dX6_isOdd_204 : decode cX6_isOdd 204 = .ok (.iconst 1, 1) := dk_4 (dk_at dksX6_isOdd_8 17 rfl rfl)
theorem dX6_isOdd_205 : decode cX6_isOdd 205 = .ok (.goto 4, 3) := dk_167 0 4 (dk_at dksX6_isOdd_8 18 rfl rfl)
theorem dX6_isOdd_208 : decode cX6_isOdd 208 = .ok (.iconst 0, 1) := dk_3 (dk_at dksX6_isOdd_8 21 rfl rfl)
theorem dX6_isOdd_209 : decode cX6_isOdd 209 = .ok (.ireturn, 1) := dk_172 (dk_at dksX6_isOdd_8 22 rfl rfl)
abbrev cX6_text : ByteArray := prog_9_method_17_code
def yX6_text : MethodName := ⟨RX6, "text", "(LLibraryDesk$TextThing;LLibraryDesk$Out;)V"⟩
def dkwX6_text_1 : List UInt8 := [132, 3, 1, 167, 255, 236, 42, 182, 0, 119, 42, 44, 3, 182, 0, 104, 177]
abbrev dktX6_text_1 : List UInt8 := dkwX6_text_1 ++ []
def dkwX6_text_0 : List UInt8 := [42, 3, 181, 0, 79, 3, 62, 29, 43, 180, 0, 122, 162, 0, 18, 42, 43, 29, 182, 0, 127, 182, 0, 90]
abbrev dktX6_text_0 : List UInt8 := dkwX6_text_0 ++ dktX6_text_1
theorem dksX6_text_0 : cX6_text.data.toList.drop 0 = dktX6_text_0 := by decide +kernel
theorem dksX6_text_1 : cX6_text.data.toList.drop 24 = dktX6_text_1 := dk_seg dksX6_text_0 24 rfl rfl
theorem dX6_text_0 : decode cX6_text 0 = .ok (.aload_n 0, 1) := dk_42 (dk_at dksX6_text_0 0 rfl rfl)
theorem dX6_text_1 : decode cX6_text 1 = .ok (.iconst 0, 1) := dk_3 (dk_at dksX6_text_0 1 rfl rfl)
theorem dX6_text_2 : decode cX6_text 2 = .ok (.putfield 79, 3) := dk_181 0 79 (dk_at dksX6_text_0 2 rfl rfl)
theorem dX6_text_5 : decode cX6_text 5 = .ok (.iconst 0, 1) := dk_3 (dk_at dksX6_text_0 5 rfl rfl)
theorem dX6_text_6 : decode cX6_text 6 = .ok (.istore_n 3, 1) := dk_62 (dk_at dksX6_text_0 6 rfl rfl)
theorem dX6_text_7 : decode cX6_text 7 = .ok (.iload_n 3, 1) := dk_29 (dk_at dksX6_text_0 7 rfl rfl)
theorem dX6_text_8 : decode cX6_text 8 = .ok (.aload_n 1, 1) := dk_43 (dk_at dksX6_text_0 8 rfl rfl)
theorem dX6_text_9 : decode cX6_text 9 = .ok (.getfield 122, 3) := dk_180 0 122 (dk_at dksX6_text_0 9 rfl rfl)
theorem dX6_text_12 : decode cX6_text 12 = .ok (.if_icmp .ge 18, 3) := dk_162 0 18 (dk_at dksX6_text_0 12 rfl rfl)
theorem dX6_text_15 : decode cX6_text 15 = .ok (.aload_n 0, 1) := dk_42 (dk_at dksX6_text_0 15 rfl rfl)
theorem dX6_text_16 : decode cX6_text 16 = .ok (.aload_n 1, 1) := dk_43 (dk_at dksX6_text_0 16 rfl rfl)
theorem dX6_text_17 : decode cX6_text 17 = .ok (.iload_n 3, 1) := dk_29 (dk_at dksX6_text_0 17 rfl rfl)
theorem dX6_text_18 : decode cX6_text 18 = .ok (.invokevirtual 127, 3) := dk_182 0 127 (dk_at dksX6_text_0 18 rfl rfl)
theorem dX6_text_21 : decode cX6_text 21 = .ok (.invokevirtual 90, 3) := dk_182 0 90 (dk_at dksX6_text_0 21 rfl rfl)
theorem dX6_text_24 : decode cX6_text 24 = .ok (.iinc 3 1, 3) := dk_132 3 1 (dk_at dksX6_text_1 0 rfl rfl)
theorem dX6_text_27 : decode cX6_text 27 = .ok (.goto (-20), 3) := dk_167 255 236 (dk_at dksX6_text_1 3 rfl rfl)
theorem dX6_text_30 : decode cX6_text 30 = .ok (.aload_n 0, 1) := dk_42 (dk_at dksX6_text_1 6 rfl rfl)
theorem dX6_text_31 : decode cX6_text 31 = .ok (.invokevirtual 119, 3) := dk_182 0 119 (dk_at dksX6_text_1 7 rfl rfl)
theorem dX6_text_34 : decode cX6_text 34 = .ok (.aload_n 0, 1) := dk_42 (dk_at dksX6_text_1 10 rfl rfl)
theorem dX6_text_35 : decode cX6_text 35 = .ok (.aload_n 2, 1) := dk_44 (dk_at dksX6_text_1 11 rfl rfl)
theorem dX6_text_36 : decode cX6_text 36 = .ok (.iconst 0, 1) := dk_3 (dk_at dksX6_text_1 12 rfl rfl)
theorem dX6_text_37 : decode cX6_text 37 = .ok (.invokevirtual 104, 3) := dk_182 0 104 (dk_at dksX6_text_1 13 rfl rfl)
theorem dX6_text_40 : decode cX6_text 40 = .ok (.return_, 1) := dk_177 (dk_at dksX6_text_1 16 rfl rfl)
abbrev cX6_put : ByteArray := prog_9_method_10_code
def yX6_put : MethodName := ⟨RX6, "put", "(I)V"⟩
def dkwX6_put_0 : List UInt8 := [42, 180, 0, 9, 42, 180, 0, 79, 27, 145, 84, 42, 89, 180, 0, 79, 4, 96, 181, 0, 79, 177]
abbrev dktX6_put_0 : List UInt8 := dkwX6_put_0 ++ []
theorem dksX6_put_0 : cX6_put.data.toList.drop 0 = dktX6_put_0 := by decide +kernel
theorem dX6_put_0 : decode cX6_put 0 = .ok (.aload_n 0, 1) := dk_42 (dk_at dksX6_put_0 0 rfl rfl)
theorem dX6_put_1 : decode cX6_put 1 = .ok (.getfield 9, 3) := dk_180 0 9 (dk_at dksX6_put_0 1 rfl rfl)
theorem dX6_put_4 : decode cX6_put 4 = .ok (.aload_n 0, 1) := dk_42 (dk_at dksX6_put_0 4 rfl rfl)
theorem dX6_put_5 : decode cX6_put 5 = .ok (.getfield 79, 3) := dk_180 0 79 (dk_at dksX6_put_0 5 rfl rfl)
theorem dX6_put_8 : decode cX6_put 8 = .ok (.iload_n 1, 1) := dk_27 (dk_at dksX6_put_0 8 rfl rfl)
theorem dX6_put_9 : decode cX6_put 9 = .ok (.i2b, 1) := dk_145 (dk_at dksX6_put_0 9 rfl rfl)
theorem dX6_put_10 : decode cX6_put 10 = .ok (.bastore, 1) := dk_84 (dk_at dksX6_put_0 10 rfl rfl)
theorem dX6_put_11 : decode cX6_put 11 = .ok (.aload_n 0, 1) := dk_42 (dk_at dksX6_put_0 11 rfl rfl)
theorem dX6_put_12 : decode cX6_put 12 = .ok (.dup, 1) := dk_89 (dk_at dksX6_put_0 12 rfl rfl)
theorem dX6_put_13 : decode cX6_put 13 = .ok (.getfield 79, 3) := dk_180 0 79 (dk_at dksX6_put_0 13 rfl rfl)
theorem dX6_put_16 : decode cX6_put 16 = .ok (.iconst 1, 1) := dk_4 (dk_at dksX6_put_0 16 rfl rfl)
theorem dX6_put_17 : decode cX6_put 17 = .ok (.iadd, 1) := dk_96 (dk_at dksX6_put_0 17 rfl rfl)
theorem dX6_put_18 : decode cX6_put 18 = .ok (.putfield 79, 3) := dk_181 0 79 (dk_at dksX6_put_0 18 rfl rfl)
theorem dX6_put_21 : decode cX6_put 21 = .ok (.return_, 1) := dk_177 (dk_at dksX6_put_0 21 rfl rfl)
abbrev cX6_shorten : ByteArray := prog_9_method_15_code
def yX6_shorten : MethodName := ⟨RX6, "shorten", "()V"⟩
def dkwX6_shorten_1 : List UInt8 := [181, 0, 79, 177]
abbrev dktX6_shorten_1 : List UInt8 := dkwX6_shorten_1 ++ []
def dkwX6_shorten_0 : List UInt8 := [42, 180, 0, 67, 155, 0, 22, 42, 180, 0, 79, 42, 180, 0, 67, 164, 0, 11, 42, 42, 180, 0, 67]
abbrev dktX6_shorten_0 : List UInt8 := dkwX6_shorten_0 ++ dktX6_shorten_1
theorem dksX6_shorten_0 : cX6_shorten.data.toList.drop 0 = dktX6_shorten_0 := by decide +kernel
theorem dksX6_shorten_1 : cX6_shorten.data.toList.drop 23 = dktX6_shorten_1 := dk_seg dksX6_shorten_0 23 rfl rfl
theorem dX6_shorten_0 : decode cX6_shorten 0 = .ok (.aload_n 0, 1) := dk_42 (dk_at dksX6_shorten_0 0 rfl rfl)
theorem dX6_shorten_1 : decode cX6_shorten 1 = .ok (.getfield 67, 3) := dk_180 0 67 (dk_at dksX6_shorten_0 1 rfl rfl)
theorem dX6_shorten_4 : decode cX6_shorten 4 = .ok (.ifCond .lt 22, 3) := dk_155 0 22 (dk_at dksX6_shorten_0 4 rfl rfl)
theorem dX6_shorten_7 : decode cX6_shorten 7 = .ok (.aload_n 0, 1) := dk_42 (dk_at dksX6_shorten_0 7 rfl rfl)
theorem dX6_shorten_8 : decode cX6_shorten 8 = .ok (.getfield 79, 3) := dk_180 0 79 (dk_at dksX6_shorten_0 8 rfl rfl)
theorem dX6_shorten_11 : decode cX6_shorten 11 = .ok (.aload_n 0, 1) := dk_42 (dk_at dksX6_shorten_0 11 rfl rfl)
theorem dX6_shorten_12 : decode cX6_shorten 12 = .ok (.getfield 67, 3) := dk_180 0 67 (dk_at dksX6_shorten_0 12 rfl rfl)
theorem dX6_shorten_15 : decode cX6_shorten 15 = .ok (.if_icmp .le 11, 3) := dk_164 0 11 (dk_at dksX6_shorten_0 15 rfl rfl)
theorem dX6_shorten_18 : decode cX6_shorten 18 = .ok (.aload_n 0, 1) := dk_42 (dk_at dksX6_shorten_0 18 rfl rfl)
theorem dX6_shorten_19 : decode cX6_shorten 19 = .ok (.aload_n 0, 1) := dk_42 (dk_at dksX6_shorten_0 19 rfl rfl)
theorem dX6_shorten_20 : decode cX6_shorten 20 = .ok (.getfield 67, 3) := dk_180 0 67 (dk_at dksX6_shorten_0 20 rfl rfl)
theorem dX6_shorten_23 : decode cX6_shorten 23 = .ok (.putfield 79, 3) := dk_181 0 79 (dk_at dksX6_shorten_1 0 rfl rfl)
theorem dX6_shorten_26 : decode cX6_shorten 26 = .ok (.return_, 1) := dk_177 (dk_at dksX6_shorten_1 3 rfl rfl)
abbrev cX6_write : ByteArray := prog_9_method_13_code
def yX6_write : MethodName := ⟨RX6, "write", "(LLibraryDesk$Out;I)V"⟩
def dkwX6_write_6 : List UInt8 := [162, 0, 15, 43, 16, 32, 182, 0, 97, 132, 4, 1, 167, 255, 241, 177]
abbrev dktX6_write_6 : List UInt8 := dkwX6_write_6 ++ []
def dkwX6_write_5 : List UInt8 := [182, 0, 97, 132, 4, 1, 167, 255, 233, 42, 180, 0, 30, 153, 0, 24, 3, 54, 4, 21, 4, 29]
abbrev dktX6_write_5 : List UInt8 := dkwX6_write_5 ++ dktX6_write_6
def dkwX6_write_4 : List UInt8 := [167, 255, 241, 28, 54, 4, 21, 4, 42, 180, 0, 79, 162, 0, 20, 43, 42, 180, 0, 9, 21, 4, 51]
abbrev dktX6_write_4 : List UInt8 := dkwX6_write_4 ++ dktX6_write_5
def dkwX6_write_3 : List UInt8 := [180, 0, 34, 153, 0, 24, 3, 54, 4, 21, 4, 29, 162, 0, 15, 43, 16, 48, 182, 0, 97, 132, 4, 1]
abbrev dktX6_write_3 : List UInt8 := dkwX6_write_3 ++ dktX6_write_4
def dkwX6_write_2 : List UInt8 := [21, 4, 28, 162, 0, 20, 43, 42, 180, 0, 9, 21, 4, 51, 182, 0, 97, 132, 4, 1, 167, 255, 236, 42]
abbrev dktX6_write_2 : List UInt8 := dkwX6_write_2 ++ dktX6_write_3
def dkwX6_write_1 : List UInt8 := [3, 54, 4, 21, 4, 29, 162, 0, 15, 43, 16, 32, 182, 0, 97, 132, 4, 1, 167, 255, 241, 3, 54, 4]
abbrev dktX6_write_1 : List UInt8 := dkwX6_write_1 ++ dktX6_write_2
def dkwX6_write_0 : List UInt8 := [42, 180, 0, 64, 42, 180, 0, 79, 100, 62, 42, 180, 0, 30, 154, 0, 31, 42, 180, 0, 34, 154, 0, 24]
abbrev dktX6_write_0 : List UInt8 := dkwX6_write_0 ++ dktX6_write_1
theorem dksX6_write_0 : cX6_write.data.toList.drop 0 = dktX6_write_0 := by decide +kernel
theorem dksX6_write_1 : cX6_write.data.toList.drop 24 = dktX6_write_1 := dk_seg dksX6_write_0 24 rfl rfl
theorem dksX6_write_2 : cX6_write.data.toList.drop 48 = dktX6_write_2 := dk_seg dksX6_write_1 24 rfl rfl
theorem dksX6_write_3 : cX6_write.data.toList.drop 72 = dktX6_write_3 := dk_seg dksX6_write_2 24 rfl rfl
theorem dksX6_write_4 : cX6_write.data.toList.drop 96 = dktX6_write_4 := dk_seg dksX6_write_3 24 rfl rfl
theorem dksX6_write_5 : cX6_write.data.toList.drop 119 = dktX6_write_5 := dk_seg dksX6_write_4 23 rfl rfl
theorem dksX6_write_6 : cX6_write.data.toList.drop 141 = dktX6_write_6 := dk_seg dksX6_write_5 22 rfl rfl
theorem dX6_write_0 : decode cX6_write 0 = .ok (.aload_n 0, 1) := dk_42 (dk_at dksX6_write_0 0 rfl rfl)
theorem dX6_write_1 : decode cX6_write 1 = .ok (.getfield 64, 3) := dk_180 0 64 (dk_at dksX6_write_0 1 rfl rfl)
theorem dX6_write_4 : decode cX6_write 4 = .ok (.aload_n 0, 1) := dk_42 (dk_at dksX6_write_0 4 rfl rfl)
theorem dX6_write_5 : decode cX6_write 5 = .ok (.getfield 79, 3) := dk_180 0 79 (dk_at dksX6_write_0 5 rfl rfl)
theorem dX6_write_8 : decode cX6_write 8 = .ok (.isub, 1) := dk_100 (dk_at dksX6_write_0 8 rfl rfl)
theorem dX6_write_9 : decode cX6_write 9 = .ok (.istore_n 3, 1) := dk_62 (dk_at dksX6_write_0 9 rfl rfl)
theorem dX6_write_10 : decode cX6_write 10 = .ok (.aload_n 0, 1) := dk_42 (dk_at dksX6_write_0 10 rfl rfl)
theorem dX6_write_11 : decode cX6_write 11 = .ok (.getfield 30, 3) := dk_180 0 30 (dk_at dksX6_write_0 11 rfl rfl)
theorem dX6_write_14 : decode cX6_write 14 = .ok (.ifCond .ne 31, 3) := dk_154 0 31 (dk_at dksX6_write_0 14 rfl rfl)
theorem dX6_write_17 : decode cX6_write 17 = .ok (.aload_n 0, 1) := dk_42 (dk_at dksX6_write_0 17 rfl rfl)
theorem dX6_write_18 : decode cX6_write 18 = .ok (.getfield 34, 3) := dk_180 0 34 (dk_at dksX6_write_0 18 rfl rfl)
theorem dX6_write_21 : decode cX6_write 21 = .ok (.ifCond .ne 24, 3) := dk_154 0 24 (dk_at dksX6_write_0 21 rfl rfl)
theorem dX6_write_24 : decode cX6_write 24 = .ok (.iconst 0, 1) := dk_3 (dk_at dksX6_write_1 0 rfl rfl)
theorem dX6_write_25 : decode cX6_write 25 = .ok (.istore 4, 2) := dk_54 4 (dk_at dksX6_write_1 1 rfl rfl)
theorem dX6_write_27 : decode cX6_write 27 = .ok (.iload 4, 2) := dk_21 4 (dk_at dksX6_write_1 3 rfl rfl)
theorem dX6_write_29 : decode cX6_write 29 = .ok (.iload_n 3, 1) := dk_29 (dk_at dksX6_write_1 5 rfl rfl)
theorem dX6_write_30 : decode cX6_write 30 = .ok (.if_icmp .ge 15, 3) := dk_162 0 15 (dk_at dksX6_write_1 6 rfl rfl)
theorem dX6_write_33 : decode cX6_write 33 = .ok (.aload_n 1, 1) := dk_43 (dk_at dksX6_write_1 9 rfl rfl)
theorem dX6_write_34 : decode cX6_write 34 = .ok (.bipush 32, 2) := dk_16 32 (dk_at dksX6_write_1 10 rfl rfl)
theorem dX6_write_36 : decode cX6_write 36 = .ok (.invokevirtual 97, 3) := dk_182 0 97 (dk_at dksX6_write_1 12 rfl rfl)
theorem dX6_write_39 : decode cX6_write 39 = .ok (.iinc 4 1, 3) := dk_132 4 1 (dk_at dksX6_write_1 15 rfl rfl)
theorem dX6_write_42 : decode cX6_write 42 = .ok (.goto (-15), 3) := dk_167 255 241 (dk_at dksX6_write_1 18 rfl rfl)
theorem dX6_write_45 : decode cX6_write 45 = .ok (.iconst 0, 1) := dk_3 (dk_at dksX6_write_1 21 rfl rfl)
theorem dX6_write_46 : decode cX6_write 46 = .ok (.istore 4, 2) := dk_54 4 (dk_at dksX6_write_1 22 rfl rfl)
theorem dX6_write_48 : decode cX6_write 48 = .ok (.iload 4, 2) := dk_21 4 (dk_at dksX6_write_2 0 rfl rfl)
theorem dX6_write_50 : decode cX6_write 50 = .ok (.iload_n 2, 1) := dk_28 (dk_at dksX6_write_2 2 rfl rfl)
theorem dX6_write_51 : decode cX6_write 51 = .ok (.if_icmp .ge 20, 3) := dk_162 0 20 (dk_at dksX6_write_2 3 rfl rfl)
theorem dX6_write_54 : decode cX6_write 54 = .ok (.aload_n 1, 1) := dk_43 (dk_at dksX6_write_2 6 rfl rfl)
theorem dX6_write_55 : decode cX6_write 55 = .ok (.aload_n 0, 1) := dk_42 (dk_at dksX6_write_2 7 rfl rfl)
theorem dX6_write_56 : decode cX6_write 56 = .ok (.getfield 9, 3) := dk_180 0 9 (dk_at dksX6_write_2 8 rfl rfl)
theorem dX6_write_59 : decode cX6_write 59 = .ok (.iload 4, 2) := dk_21 4 (dk_at dksX6_write_2 11 rfl rfl)
theorem dX6_write_61 : decode cX6_write 61 = .ok (.baload, 1) := dk_51 (dk_at dksX6_write_2 13 rfl rfl)
theorem dX6_write_62 : decode cX6_write 62 = .ok (.invokevirtual 97, 3) := dk_182 0 97 (dk_at dksX6_write_2 14 rfl rfl)
theorem dX6_write_65 : decode cX6_write 65 = .ok (.iinc 4 1, 3) := dk_132 4 1 (dk_at dksX6_write_2 17 rfl rfl)
theorem dX6_write_68 : decode cX6_write 68 = .ok (.goto (-20), 3) := dk_167 255 236 (dk_at dksX6_write_2 20 rfl rfl)
theorem dX6_write_71 : decode cX6_write 71 = .ok (.aload_n 0, 1) := dk_42 (dk_at dksX6_write_2 23 rfl rfl)
theorem dX6_write_72 : decode cX6_write 72 = .ok (.getfield 34, 3) := dk_180 0 34 (dk_at dksX6_write_3 0 rfl rfl)
theorem dX6_write_75 : decode cX6_write 75 = .ok (.ifCond .eq 24, 3) := dk_153 0 24 (dk_at dksX6_write_3 3 rfl rfl)
theorem dX6_write_78 : decode cX6_write 78 = .ok (.iconst 0, 1) := dk_3 (dk_at dksX6_write_3 6 rfl rfl)
theorem dX6_write_79 : decode cX6_write 79 = .ok (.istore 4, 2) := dk_54 4 (dk_at dksX6_write_3 7 rfl rfl)
theorem dX6_write_81 : decode cX6_write 81 = .ok (.iload 4, 2) := dk_21 4 (dk_at dksX6_write_3 9 rfl rfl)
theorem dX6_write_83 : decode cX6_write 83 = .ok (.iload_n 3, 1) := dk_29 (dk_at dksX6_write_3 11 rfl rfl)
theorem dX6_write_84 : decode cX6_write 84 = .ok (.if_icmp .ge 15, 3) := dk_162 0 15 (dk_at dksX6_write_3 12 rfl rfl)
theorem dX6_write_87 : decode cX6_write 87 = .ok (.aload_n 1, 1) := dk_43 (dk_at dksX6_write_3 15 rfl rfl)
theorem dX6_write_88 : decode cX6_write 88 = .ok (.bipush 48, 2) := dk_16 48 (dk_at dksX6_write_3 16 rfl rfl)
theorem dX6_write_90 : decode cX6_write 90 = .ok (.invokevirtual 97, 3) := dk_182 0 97 (dk_at dksX6_write_3 18 rfl rfl)
theorem dX6_write_93 : decode cX6_write 93 = .ok (.iinc 4 1, 3) := dk_132 4 1 (dk_at dksX6_write_3 21 rfl rfl)
theorem dX6_write_96 : decode cX6_write 96 = .ok (.goto (-15), 3) := dk_167 255 241 (dk_at dksX6_write_4 0 rfl rfl)
theorem dX6_write_99 : decode cX6_write 99 = .ok (.iload_n 2, 1) := dk_28 (dk_at dksX6_write_4 3 rfl rfl)
theorem dX6_write_100 : decode cX6_write 100 = .ok (.istore 4, 2) := dk_54 4 (dk_at dksX6_write_4 4 rfl rfl)
theorem dX6_write_102 : decode cX6_write 102 = .ok (.iload 4, 2) := dk_21 4 (dk_at dksX6_write_4 6 rfl rfl)
theorem dX6_write_104 : decode cX6_write 104 = .ok (.aload_n 0, 1) := dk_42 (dk_at dksX6_write_4 8 rfl rfl)
theorem dX6_write_105 : decode cX6_write 105 = .ok (.getfield 79, 3) := dk_180 0 79 (dk_at dksX6_write_4 9 rfl rfl)
theorem dX6_write_108 : decode cX6_write 108 = .ok (.if_icmp .ge 20, 3) := dk_162 0 20 (dk_at dksX6_write_4 12 rfl rfl)
theorem dX6_write_111 : decode cX6_write 111 = .ok (.aload_n 1, 1) := dk_43 (dk_at dksX6_write_4 15 rfl rfl)
theorem dX6_write_112 : decode cX6_write 112 = .ok (.aload_n 0, 1) := dk_42 (dk_at dksX6_write_4 16 rfl rfl)
theorem dX6_write_113 : decode cX6_write 113 = .ok (.getfield 9, 3) := dk_180 0 9 (dk_at dksX6_write_4 17 rfl rfl)
theorem dX6_write_116 : decode cX6_write 116 = .ok (.iload 4, 2) := dk_21 4 (dk_at dksX6_write_4 20 rfl rfl)
theorem dX6_write_118 : decode cX6_write 118 = .ok (.baload, 1) := dk_51 (dk_at dksX6_write_4 22 rfl rfl)
theorem dX6_write_119 : decode cX6_write 119 = .ok (.invokevirtual 97, 3) := dk_182 0 97 (dk_at dksX6_write_5 0 rfl rfl)
theorem dX6_write_122 : decode cX6_write 122 = .ok (.iinc 4 1, 3) := dk_132 4 1 (dk_at dksX6_write_5 3 rfl rfl)
theorem dX6_write_125 : decode cX6_write 125 = .ok (.goto (-23), 3) := dk_167 255 233 (dk_at dksX6_write_5 6 rfl rfl)
theorem dX6_write_128 : decode cX6_write 128 = .ok (.aload_n 0, 1) := dk_42 (dk_at dksX6_write_5 9 rfl rfl)
theorem dX6_write_129 : decode cX6_write 129 = .ok (.getfield 30, 3) := dk_180 0 30 (dk_at dksX6_write_5 10 rfl rfl)
theorem dX6_write_132 : decode cX6_write 132 = .ok (.ifCond .eq 24, 3) := dk_153 0 24 (dk_at dksX6_write_5 13 rfl rfl)
theorem dX6_write_135 : decode cX6_write 135 = .ok (.iconst 0, 1) := dk_3 (dk_at dksX6_write_5 16 rfl rfl)
theorem dX6_write_136 : decode cX6_write 136 = .ok (.istore 4, 2) := dk_54 4 (dk_at dksX6_write_5 17 rfl rfl)
theorem dX6_write_138 : decode cX6_write 138 = .ok (.iload 4, 2) := dk_21 4 (dk_at dksX6_write_5 19 rfl rfl)
theorem dX6_write_140 : decode cX6_write 140 = .ok (.iload_n 3, 1) := dk_29 (dk_at dksX6_write_5 21 rfl rfl)
theorem dX6_write_141 : decode cX6_write 141 = .ok (.if_icmp .ge 15, 3) := dk_162 0 15 (dk_at dksX6_write_6 0 rfl rfl)
theorem dX6_write_144 : decode cX6_write 144 = .ok (.aload_n 1, 1) := dk_43 (dk_at dksX6_write_6 3 rfl rfl)
theorem dX6_write_145 : decode cX6_write 145 = .ok (.bipush 32, 2) := dk_16 32 (dk_at dksX6_write_6 4 rfl rfl)
theorem dX6_write_147 : decode cX6_write 147 = .ok (.invokevirtual 97, 3) := dk_182 0 97 (dk_at dksX6_write_6 6 rfl rfl)
theorem dX6_write_150 : decode cX6_write 150 = .ok (.iinc 4 1, 3) := dk_132 4 1 (dk_at dksX6_write_6 9 rfl rfl)
theorem dX6_write_153 : decode cX6_write 153 = .ok (.goto (-15), 3) := dk_167 255 241 (dk_at dksX6_write_6 12 rfl rfl)
theorem dX6_write_156 : decode cX6_write 156 = .ok (.return_, 1) := dk_177 (dk_at dksX6_write_6 15 rfl rfl)
abbrev cX6_value : ByteArray := prog_9_method_16_code
def yX6_value : MethodName := ⟨RX6, "value", "(ILLibraryDesk$Out;)V"⟩
def dkwX6_value_2 : List UInt8 := [167, 0, 10, 42, 27, 44, 182, 0, 116, 177, 42, 182, 0, 119, 42, 44, 3, 182, 0, 104, 177]
abbrev dktX6_value_2 : List UInt8 := dkwX6_value_2 ++ []
def dkwX6_value_1 : List UInt8 := [180, 0, 70, 16, 98, 160, 0, 21, 42, 27, 154, 0, 8, 18, 108, 167, 0, 5, 18, 110, 182, 0, 112]
abbrev dktX6_value_1 : List UInt8 := dkwX6_value_1 ++ dktX6_value_2
def dkwX6_value_0 : List UInt8 := [42, 3, 181, 0, 79, 42, 180, 0, 70, 16, 99, 160, 0, 11, 42, 27, 182, 0, 90, 167, 0, 37, 42]
abbrev dktX6_value_0 : List UInt8 := dkwX6_value_0 ++ dktX6_value_1
theorem dksX6_value_0 : cX6_value.data.toList.drop 0 = dktX6_value_0 := by decide +kernel
theorem dksX6_value_1 : cX6_value.data.toList.drop 23 = dktX6_value_1 := dk_seg dksX6_value_0 23 rfl rfl
theorem dksX6_value_2 : cX6_value.data.toList.drop 46 = dktX6_value_2 := dk_seg dksX6_value_1 23 rfl rfl
theorem dX6_value_0 : decode cX6_value 0 = .ok (.aload_n 0, 1) := dk_42 (dk_at dksX6_value_0 0 rfl rfl)
theorem dX6_value_1 : decode cX6_value 1 = .ok (.iconst 0, 1) := dk_3 (dk_at dksX6_value_0 1 rfl rfl)
theorem dX6_value_2 : decode cX6_value 2 = .ok (.putfield 79, 3) := dk_181 0 79 (dk_at dksX6_value_0 2 rfl rfl)
theorem dX6_value_5 : decode cX6_value 5 = .ok (.aload_n 0, 1) := dk_42 (dk_at dksX6_value_0 5 rfl rfl)
theorem dX6_value_6 : decode cX6_value 6 = .ok (.getfield 70, 3) := dk_180 0 70 (dk_at dksX6_value_0 6 rfl rfl)
theorem dX6_value_9 : decode cX6_value 9 = .ok (.bipush 99, 2) := dk_16 99 (dk_at dksX6_value_0 9 rfl rfl)
theorem dX6_value_11 : decode cX6_value 11 = .ok (.if_icmp .ne 11, 3) := dk_160 0 11 (dk_at dksX6_value_0 11 rfl rfl)
theorem dX6_value_14 : decode cX6_value 14 = .ok (.aload_n 0, 1) := dk_42 (dk_at dksX6_value_0 14 rfl rfl)
theorem dX6_value_15 : decode cX6_value 15 = .ok (.iload_n 1, 1) := dk_27 (dk_at dksX6_value_0 15 rfl rfl)
theorem dX6_value_16 : decode cX6_value 16 = .ok (.invokevirtual 90, 3) := dk_182 0 90 (dk_at dksX6_value_0 16 rfl rfl)
theorem dX6_value_19 : decode cX6_value 19 = .ok (.goto 37, 3) := dk_167 0 37 (dk_at dksX6_value_0 19 rfl rfl)
theorem dX6_value_22 : decode cX6_value 22 = .ok (.aload_n 0, 1) := dk_42 (dk_at dksX6_value_0 22 rfl rfl)
theorem dX6_value_23 : decode cX6_value 23 = .ok (.getfield 70, 3) := dk_180 0 70 (dk_at dksX6_value_1 0 rfl rfl)
theorem dX6_value_26 : decode cX6_value 26 = .ok (.bipush 98, 2) := dk_16 98 (dk_at dksX6_value_1 3 rfl rfl)
theorem dX6_value_28 : decode cX6_value 28 = .ok (.if_icmp .ne 21, 3) := dk_160 0 21 (dk_at dksX6_value_1 5 rfl rfl)
theorem dX6_value_31 : decode cX6_value 31 = .ok (.aload_n 0, 1) := dk_42 (dk_at dksX6_value_1 8 rfl rfl)
theorem dX6_value_32 : decode cX6_value 32 = .ok (.iload_n 1, 1) := dk_27 (dk_at dksX6_value_1 9 rfl rfl)
theorem dX6_value_33 : decode cX6_value 33 = .ok (.ifCond .ne 8, 3) := dk_154 0 8 (dk_at dksX6_value_1 10 rfl rfl)
theorem dX6_value_36 : decode cX6_value 36 = .ok (.ldc 108, 2) := dk_18 108 (dk_at dksX6_value_1 13 rfl rfl)
theorem dX6_value_38 : decode cX6_value 38 = .ok (.goto 5, 3) := dk_167 0 5 (dk_at dksX6_value_1 15 rfl rfl)
theorem dX6_value_41 : decode cX6_value 41 = .ok (.ldc 110, 2) := dk_18 110 (dk_at dksX6_value_1 18 rfl rfl)
theorem dX6_value_43 : decode cX6_value 43 = .ok (.invokevirtual 112, 3) := dk_182 0 112 (dk_at dksX6_value_1 20 rfl rfl)
theorem dX6_value_46 : decode cX6_value 46 = .ok (.goto 10, 3) := dk_167 0 10 (dk_at dksX6_value_2 0 rfl rfl)
theorem dX6_value_49 : decode cX6_value 49 = .ok (.aload_n 0, 1) := dk_42 (dk_at dksX6_value_2 3 rfl rfl)
theorem dX6_value_50 : decode cX6_value 50 = .ok (.iload_n 1, 1) := dk_27 (dk_at dksX6_value_2 4 rfl rfl)
theorem dX6_value_51 : decode cX6_value 51 = .ok (.aload_n 2, 1) := dk_44 (dk_at dksX6_value_2 5 rfl rfl)
theorem dX6_value_52 : decode cX6_value 52 = .ok (.invokevirtual 116, 3) := dk_182 0 116 (dk_at dksX6_value_2 6 rfl rfl)
theorem dX6_value_55 : decode cX6_value 55 = .ok (.return_, 1) := dk_177 (dk_at dksX6_value_2 9 rfl rfl)
theorem dX6_value_56 : decode cX6_value 56 = .ok (.aload_n 0, 1) := dk_42 (dk_at dksX6_value_2 10 rfl rfl)
theorem dX6_value_57 : decode cX6_value 57 = .ok (.invokevirtual 119, 3) := dk_182 0 119 (dk_at dksX6_value_2 11 rfl rfl)
theorem dX6_value_60 : decode cX6_value 60 = .ok (.aload_n 0, 1) := dk_42 (dk_at dksX6_value_2 14 rfl rfl)
theorem dX6_value_61 : decode cX6_value 61 = .ok (.aload_n 2, 1) := dk_44 (dk_at dksX6_value_2 15 rfl rfl)
theorem dX6_value_62 : decode cX6_value 62 = .ok (.iconst 0, 1) := dk_3 (dk_at dksX6_value_2 16 rfl rfl)
theorem dX6_value_63 : decode cX6_value 63 = .ok (.invokevirtual 104, 3) := dk_182 0 104 (dk_at dksX6_value_2 17 rfl rfl)
theorem dX6_value_66 : decode cX6_value 66 = .ok (.return_, 1) := dk_177 (dk_at dksX6_value_2 20 rfl rfl)
abbrev cX6_string : ByteArray := prog_9_method_11_code
def yX6_string : MethodName := ⟨RX6, "string", "(Ljava/lang/String;)V"⟩
def dkwX6_string_1 : List UInt8 := [167, 255, 236, 177]
abbrev dktX6_string_1 : List UInt8 := dkwX6_string_1 ++ []
def dkwX6_string_0 : List UInt8 := [3, 61, 28, 43, 182, 0, 82, 162, 0, 18, 42, 43, 28, 182, 0, 86, 182, 0, 90, 132, 2, 1]
abbrev dktX6_string_0 : List UInt8 := dkwX6_string_0 ++ dktX6_string_1
theorem dksX6_string_0 : cX6_string.data.toList.drop 0 = dktX6_string_0 := by decide +kernel
theorem dksX6_string_1 : cX6_string.data.toList.drop 22 = dktX6_string_1 := dk_seg dksX6_string_0 22 rfl rfl
theorem dX6_string_0 : decode cX6_string 0 = .ok (.iconst 0, 1) := dk_3 (dk_at dksX6_string_0 0 rfl rfl)
theorem dX6_string_1 : decode cX6_string 1 = .ok (.istore_n 2, 1) := dk_61 (dk_at dksX6_string_0 1 rfl rfl)
theorem dX6_string_2 : decode cX6_string 2 = .ok (.iload_n 2, 1) := dk_28 (dk_at dksX6_string_0 2 rfl rfl)
theorem dX6_string_3 : decode cX6_string 3 = .ok (.aload_n 1, 1) := dk_43 (dk_at dksX6_string_0 3 rfl rfl)
theorem dX6_string_4 : decode cX6_string 4 = .ok (.invokevirtual 82, 3) := dk_182 0 82 (dk_at dksX6_string_0 4 rfl rfl)
theorem dX6_string_7 : decode cX6_string 7 = .ok (.if_icmp .ge 18, 3) := dk_162 0 18 (dk_at dksX6_string_0 7 rfl rfl)
theorem dX6_string_10 : decode cX6_string 10 = .ok (.aload_n 0, 1) := dk_42 (dk_at dksX6_string_0 10 rfl rfl)
theorem dX6_string_11 : decode cX6_string 11 = .ok (.aload_n 1, 1) := dk_43 (dk_at dksX6_string_0 11 rfl rfl)
theorem dX6_string_12 : decode cX6_string 12 = .ok (.iload_n 2, 1) := dk_28 (dk_at dksX6_string_0 12 rfl rfl)
theorem dX6_string_13 : decode cX6_string 13 = .ok (.invokevirtual 86, 3) := dk_182 0 86 (dk_at dksX6_string_0 13 rfl rfl)
theorem dX6_string_16 : decode cX6_string 16 = .ok (.invokevirtual 90, 3) := dk_182 0 90 (dk_at dksX6_string_0 16 rfl rfl)
theorem dX6_string_19 : decode cX6_string 19 = .ok (.iinc 2 1, 3) := dk_132 2 1 (dk_at dksX6_string_0 19 rfl rfl)
theorem dX6_string_22 : decode cX6_string 22 = .ok (.goto (-20), 3) := dk_167 255 236 (dk_at dksX6_string_1 0 rfl rfl)
theorem dX6_string_25 : decode cX6_string 25 = .ok (.return_, 1) := dk_177 (dk_at dksX6_string_1 3 rfl rfl)
abbrev cX6_number_2 : ByteArray := prog_9_method_14_code
def yX6_number_2 : MethodName := ⟨RX6, "numbe\x72", "(ILLibraryDesk$Out;)V"⟩
def dkwX6_number_2_5 : List UInt8 := [44, 29, 182, 0, 104, 177]
abbrev dktX6_number_2_5 : List UInt8 := dkwX6_number_2_5 ++ []
def dkwX6_number_2_4 : List UInt8 := [42, 27, 156, 0, 9, 27, 133, 117, 167, 0, 5, 27, 133, 16, 10, 42, 180, 0, 43, 3, 182, 0, 93, 42]
abbrev dktX6_number_2_4 : List UInt8 := dkwX6_number_2_4 ++ dktX6_number_2_5
def dkwX6_number_2_3 : List UInt8 := [182, 0, 90, 167, 0, 16, 42, 180, 0, 40, 153, 0, 9, 42, 16, 32, 182, 0, 90, 42, 180, 0, 79, 62]
abbrev dktX6_number_2_3 : List UInt8 := dkwX6_number_2_3 ++ dktX6_number_2_4
def dkwX6_number_2_2 : List UInt8 := [156, 0, 12, 42, 16, 45, 182, 0, 90, 167, 0, 32, 42, 180, 0, 37, 153, 0, 12, 42, 16, 43]
abbrev dktX6_number_2_2 : List UInt8 := dkwX6_number_2_2 ++ dktX6_number_2_3
def dkwX6_number_2_1 : List UInt8 := [160, 0, 8, 16, 16, 167, 0, 5, 16, 8, 3, 3, 182, 0, 93, 42, 44, 3, 182, 0, 104, 177, 27]
abbrev dktX6_number_2_1 : List UInt8 := dkwX6_number_2_1 ++ dktX6_number_2_2
def dkwX6_number_2_0 : List UInt8 := [42, 180, 0, 70, 16, 100, 159, 0, 38, 42, 27, 133, 20, 0, 102, 127, 42, 180, 0, 70, 16, 120]
abbrev dktX6_number_2_0 : List UInt8 := dkwX6_number_2_0 ++ dktX6_number_2_1
theorem dksX6_number_2_0 : cX6_number_2.data.toList.drop 0 = dktX6_number_2_0 := by decide +kernel
theorem dksX6_number_2_1 : cX6_number_2.data.toList.drop 22 = dktX6_number_2_1 := dk_seg dksX6_number_2_0 22 rfl rfl
theorem dksX6_number_2_2 : cX6_number_2.data.toList.drop 45 = dktX6_number_2_2 := dk_seg dksX6_number_2_1 23 rfl rfl
theorem dksX6_number_2_3 : cX6_number_2.data.toList.drop 67 = dktX6_number_2_3 := dk_seg dksX6_number_2_2 22 rfl rfl
theorem dksX6_number_2_4 : cX6_number_2.data.toList.drop 91 = dktX6_number_2_4 := dk_seg dksX6_number_2_3 24 rfl rfl
theorem dksX6_number_2_5 : cX6_number_2.data.toList.drop 115 = dktX6_number_2_5 := dk_seg dksX6_number_2_4 24 rfl rfl
theorem dX6_number_2_0 : decode cX6_number_2 0 = .ok (.aload_n 0, 1) := dk_42 (dk_at dksX6_number_2_0 0 rfl rfl)
theorem dX6_number_2_1 : decode cX6_number_2 1 = .ok (.getfield 70, 3) := dk_180 0 70 (dk_at dksX6_number_2_0 1 rfl rfl)
theorem dX6_number_2_4 : decode cX6_number_2 4 = .ok (.bipush 100, 2) := dk_16 100 (dk_at dksX6_number_2_0 4 rfl rfl)
theorem dX6_number_2_6 : decode cX6_number_2 6 = .ok (.if_icmp .eq 38, 3) := dk_159 0 38 (dk_at dksX6_number_2_0 6 rfl rfl)
theorem dX6_number_2_9 : decode cX6_number_2 9 = .ok (.aload_n 0, 1) := dk_42 (dk_at dksX6_number_2_0 9 rfl rfl)
theorem dX6_number_2_10 : decode cX6_number_2 10 = .ok (.iload_n 1, 1) := dk_27 (dk_at dksX6_number_2_0 10 rfl rfl)
theorem dX6_number_2_11 : decode cX6_number_2 11 = .ok (.i2l, 1) := dk_133 (dk_at dksX6_number_2_0 11 rfl rfl)
theorem dX6_number_2_12 : decode cX6_number_2 12 = .ok (.ldc2_w 102, 3) := dk_20 0 102 (dk_at dksX6_number_2_0 12 rfl rfl)
theorem dX6_number_2_15 : decode cX6_number_2 15 = .ok (.land, 1) := dk_127 (dk_at dksX6_number_2_0 15 rfl rfl)
theorem dX6_number_2_16 : decode cX6_number_2 16 = .ok (.aload_n 0, 1) := dk_42 (dk_at dksX6_number_2_0 16 rfl rfl)
theorem dX6_number_2_17 : decode cX6_number_2 17 = .ok (.getfield 70, 3) := dk_180 0 70 (dk_at dksX6_number_2_0 17 rfl rfl)
theorem dX6_number_2_20 : decode cX6_number_2 20 = .ok (.bipush 120, 2) := dk_16 120 (dk_at dksX6_number_2_0 20 rfl rfl)
theorem dX6_number_2_22 : decode cX6_number_2 22 = .ok (.if_icmp .ne 8, 3) := dk_160 0 8 (dk_at dksX6_number_2_1 0 rfl rfl)
theorem dX6_number_2_25 : decode cX6_number_2 25 = .ok (.bipush 16, 2) := dk_16 16 (dk_at dksX6_number_2_1 3 rfl rfl)
theorem dX6_number_2_27 : decode cX6_number_2 27 = .ok (.goto 5, 3) := dk_167 0 5 (dk_at dksX6_number_2_1 5 rfl rfl)
theorem dX6_number_2_30 : decode cX6_number_2 30 = .ok (.bipush 8, 2) := dk_16 8 (dk_at dksX6_number_2_1 8 rfl rfl)
theorem dX6_number_2_32 : decode cX6_number_2 32 = .ok (.iconst 0, 1) := dk_3 (dk_at dksX6_number_2_1 10 rfl rfl)
theorem dX6_number_2_33 : decode cX6_number_2 33 = .ok (.iconst 0, 1) := dk_3 (dk_at dksX6_number_2_1 11 rfl rfl)
theorem dX6_number_2_34 : decode cX6_number_2 34 = .ok (.invokevirtual 93, 3) := dk_182 0 93 (dk_at dksX6_number_2_1 12 rfl rfl)
theorem dX6_number_2_37 : decode cX6_number_2 37 = .ok (.aload_n 0, 1) := dk_42 (dk_at dksX6_number_2_1 15 rfl rfl)
theorem dX6_number_2_38 : decode cX6_number_2 38 = .ok (.aload_n 2, 1) := dk_44 (dk_at dksX6_number_2_1 16 rfl rfl)
theorem dX6_number_2_39 : decode cX6_number_2 39 = .ok (.iconst 0, 1) := dk_3 (dk_at dksX6_number_2_1 17 rfl rfl)
theorem dX6_number_2_40 : decode cX6_number_2 40 = .ok (.invokevirtual 104, 3) := dk_182 0 104 (dk_at dksX6_number_2_1 18 rfl rfl)
theorem dX6_number_2_43 : decode cX6_number_2 43 = .ok (.return_, 1) := dk_177 (dk_at dksX6_number_2_1 21 rfl rfl)
theorem dX6_number_2_44 : decode cX6_number_2 44 = .ok (.iload_n 1, 1) := dk_27 (dk_at dksX6_number_2_1 22 rfl rfl)
theorem dX6_number_2_45 : decode cX6_number_2 45 = .ok (.ifCond .ge 12, 3) := dk_156 0 12 (dk_at dksX6_number_2_2 0 rfl rfl)
theorem dX6_number_2_48 : decode cX6_number_2 48 = .ok (.aload_n 0, 1) := dk_42 (dk_at dksX6_number_2_2 3 rfl rfl)
theorem dX6_number_2_49 : decode cX6_number_2 49 = .ok (.bipush 45, 2) := dk_16 45 (dk_at dksX6_number_2_2 4 rfl rfl)
theorem dX6_number_2_51 : decode cX6_number_2 51 = .ok (.invokevirtual 90, 3) := dk_182 0 90 (dk_at dksX6_number_2_2 6 rfl rfl)
theorem dX6_number_2_54 : decode cX6_number_2 54 = .ok (.goto 32, 3) := dk_167 0 32 (dk_at dksX6_number_2_2 9 rfl rfl)
theorem dX6_number_2_57 : decode cX6_number_2 57 = .ok (.aload_n 0, 1) := dk_42 (dk_at dksX6_number_2_2 12 rfl rfl)
theorem dX6_number_2_58 : decode cX6_number_2 58 = .ok (.getfield 37, 3) := dk_180 0 37 (dk_at dksX6_number_2_2 13 rfl rfl)
theorem dX6_number_2_61 : decode cX6_number_2 61 = .ok (.ifCond .eq 12, 3) := dk_153 0 12 (dk_at dksX6_number_2_2 16 rfl rfl)
theorem dX6_number_2_64 : decode cX6_number_2 64 = .ok (.aload_n 0, 1) := dk_42 (dk_at dksX6_number_2_2 19 rfl rfl)
theorem dX6_number_2_65 : decode cX6_number_2 65 = .ok (.bipush 43, 2) := dk_16 43 (dk_at dksX6_number_2_2 20 rfl rfl)
theorem dX6_number_2_67 : decode cX6_number_2 67 = .ok (.invokevirtual 90, 3) := dk_182 0 90 (dk_at dksX6_number_2_3 0 rfl rfl)
theorem dX6_number_2_70 : decode cX6_number_2 70 = .ok (.goto 16, 3) := dk_167 0 16 (dk_at dksX6_number_2_3 3 rfl rfl)
theorem dX6_number_2_73 : decode cX6_number_2 73 = .ok (.aload_n 0, 1) := dk_42 (dk_at dksX6_number_2_3 6 rfl rfl)
theorem dX6_number_2_74 : decode cX6_number_2 74 = .ok (.getfield 40, 3) := dk_180 0 40 (dk_at dksX6_number_2_3 7 rfl rfl)
theorem dX6_number_2_77 : decode cX6_number_2 77 = .ok (.ifCond .eq 9, 3) := dk_153 0 9 (dk_at dksX6_number_2_3 10 rfl rfl)
theorem dX6_number_2_80 : decode cX6_number_2 80 = .ok (.aload_n 0, 1) := dk_42 (dk_at dksX6_number_2_3 13 rfl rfl)
theorem dX6_number_2_81 : decode cX6_number_2 81 = .ok (.bipush 32, 2) := dk_16 32 (dk_at dksX6_number_2_3 14 rfl rfl)
theorem dX6_number_2_83 : decode cX6_number_2 83 = .ok (.invokevirtual 90, 3) := dk_182 0 90 (dk_at dksX6_number_2_3 16 rfl rfl)
theorem dX6_number_2_86 : decode cX6_number_2 86 = .ok (.aload_n 0, 1) := dk_42 (dk_at dksX6_number_2_3 19 rfl rfl)
theorem dX6_number_2_87 : decode cX6_number_2 87 = .ok (.getfield 79, 3) := dk_180 0 79 (dk_at dksX6_number_2_3 20 rfl rfl)
theorem dX6_number_2_90 : decode cX6_number_2 90 = .ok (.istore_n 3, 1) := dk_62 (dk_at dksX6_number_2_3 23 rfl rfl)
theorem dX6_number_2_91 : decode cX6_number_2 91 = .ok (.aload_n 0, 1) := dk_42 (dk_at dksX6_number_2_4 0 rfl rfl)
theorem dX6_number_2_92 : decode cX6_number_2 92 = .ok (.iload_n 1, 1) := dk_27 (dk_at dksX6_number_2_4 1 rfl rfl)
theorem dX6_number_2_93 : decode cX6_number_2 93 = .ok (.ifCond .ge 9, 3) := dk_156 0 9 (dk_at dksX6_number_2_4 2 rfl rfl)
theorem dX6_number_2_96 : decode cX6_number_2 96 = .ok (.iload_n 1, 1) := dk_27 (dk_at dksX6_number_2_4 5 rfl rfl)
theorem dX6_number_2_97 : decode cX6_number_2 97 = .ok (.i2l, 1) := dk_133 (dk_at dksX6_number_2_4 6 rfl rfl)
theorem dX6_number_2_98 : decode cX6_number_2 98 = .ok (.lneg, 1) := dk_117 (dk_at dksX6_number_2_4 7 rfl rfl)
theorem dX6_number_2_99 : decode cX6_number_2 99 = .ok (.goto 5, 3) := dk_167 0 5 (dk_at dksX6_number_2_4 8 rfl rfl)
theorem dX6_number_2_102 : decode cX6_number_2 102 = .ok (.iload_n 1, 1) := dk_27 (dk_at dksX6_number_2_4 11 rfl rfl)
theorem dX6_number_2_103 : decode cX6_number_2 103 = .ok (.i2l, 1) := dk_133 (dk_at dksX6_number_2_4 12 rfl rfl)
theorem dX6_number_2_104 : decode cX6_number_2 104 = .ok (.bipush 10, 2) := dk_16 10 (dk_at dksX6_number_2_4 13 rfl rfl)
theorem dX6_number_2_106 : decode cX6_number_2 106 = .ok (.aload_n 0, 1) := dk_42 (dk_at dksX6_number_2_4 15 rfl rfl)
theorem dX6_number_2_107 : decode cX6_number_2 107 = .ok (.getfield 43, 3) := dk_180 0 43 (dk_at dksX6_number_2_4 16 rfl rfl)
theorem dX6_number_2_110 : decode cX6_number_2 110 = .ok (.iconst 0, 1) := dk_3 (dk_at dksX6_number_2_4 19 rfl rfl)
theorem dX6_number_2_111 : decode cX6_number_2 111 = .ok (.invokevirtual 93, 3) := dk_182 0 93 (dk_at dksX6_number_2_4 20 rfl rfl)
theorem dX6_number_2_114 : decode cX6_number_2 114 = .ok (.aload_n 0, 1) := dk_42 (dk_at dksX6_number_2_4 23 rfl rfl)
theorem dX6_number_2_115 : decode cX6_number_2 115 = .ok (.aload_n 2, 1) := dk_44 (dk_at dksX6_number_2_5 0 rfl rfl)
theorem dX6_number_2_116 : decode cX6_number_2 116 = .ok (.iload_n 3, 1) := dk_29 (dk_at dksX6_number_2_5 1 rfl rfl)
theorem dX6_number_2_117 : decode cX6_number_2 117 = .ok (.invokevirtual 104, 3) := dk_182 0 104 (dk_at dksX6_number_2_5 2 rfl rfl)
theorem dX6_number_2_120 : decode cX6_number_2 120 = .ok (.return_, 1) := dk_177 (dk_at dksX6_number_2_5 5 rfl rfl)
abbrev cX6_digits : ByteArray := prog_9_method_12_code
def yX6_digits : MethodName := ⟨RX6, "digits", "(JIZI)V"⟩
def dkwX6_digits_3 : List UInt8 := [154, 0, 9, 42, 16, 44, 182, 0, 90, 177]
abbrev dktX6_digits_3 : List UInt8 := dkwX6_digits_3 ++ []
def dkwX6_digits_2 : List UInt8 := [21, 6, 96, 16, 10, 100, 182, 0, 90, 21, 4, 153, 0, 21, 21, 5, 158, 0, 16, 21, 5, 6, 112]
abbrev dktX6_digits_2 : List UInt8 := dkwX6_digits_2 ++ dktX6_digits_3
def dkwX6_digits_1 : List UInt8 := [133, 113, 136, 54, 6, 42, 21, 6, 16, 10, 162, 0, 11, 16, 48, 21, 6, 96, 167, 0, 11, 16, 97]
abbrev dktX6_digits_1 : List UInt8 := dkwX6_digits_1 ++ dktX6_digits_2
def dkwX6_digits_0 : List UInt8 := [31, 29, 133, 148, 155, 0, 18, 42, 31, 29, 133, 109, 29, 21, 4, 21, 5, 4, 96, 182, 0, 93, 31, 29]
abbrev dktX6_digits_0 : List UInt8 := dkwX6_digits_0 ++ dktX6_digits_1
theorem dksX6_digits_0 : cX6_digits.data.toList.drop 0 = dktX6_digits_0 := by decide +kernel
theorem dksX6_digits_1 : cX6_digits.data.toList.drop 24 = dktX6_digits_1 := dk_seg dksX6_digits_0 24 rfl rfl
theorem dksX6_digits_2 : cX6_digits.data.toList.drop 47 = dktX6_digits_2 := dk_seg dksX6_digits_1 23 rfl rfl
theorem dksX6_digits_3 : cX6_digits.data.toList.drop 70 = dktX6_digits_3 := dk_seg dksX6_digits_2 23 rfl rfl
theorem dX6_digits_0 : decode cX6_digits 0 = .ok (.lload_n 1, 1) := dk_31 (dk_at dksX6_digits_0 0 rfl rfl)
theorem dX6_digits_1 : decode cX6_digits 1 = .ok (.iload_n 3, 1) := dk_29 (dk_at dksX6_digits_0 1 rfl rfl)
theorem dX6_digits_2 : decode cX6_digits 2 = .ok (.i2l, 1) := dk_133 (dk_at dksX6_digits_0 2 rfl rfl)
theorem dX6_digits_3 : decode cX6_digits 3 = .ok (.lcmp, 1) := dk_148 (dk_at dksX6_digits_0 3 rfl rfl)
theorem dX6_digits_4 : decode cX6_digits 4 = .ok (.ifCond .lt 18, 3) := dk_155 0 18 (dk_at dksX6_digits_0 4 rfl rfl)
theorem dX6_digits_7 : decode cX6_digits 7 = .ok (.aload_n 0, 1) := dk_42 (dk_at dksX6_digits_0 7 rfl rfl)
theorem dX6_digits_8 : decode cX6_digits 8 = .ok (.lload_n 1, 1) := dk_31 (dk_at dksX6_digits_0 8 rfl rfl)
theorem dX6_digits_9 : decode cX6_digits 9 = .ok (.iload_n 3, 1) := dk_29 (dk_at dksX6_digits_0 9 rfl rfl)
theorem dX6_digits_10 : decode cX6_digits 10 = .ok (.i2l, 1) := dk_133 (dk_at dksX6_digits_0 10 rfl rfl)
theorem dX6_digits_11 : decode cX6_digits 11 = .ok (.ldiv, 1) := dk_109 (dk_at dksX6_digits_0 11 rfl rfl)
theorem dX6_digits_12 : decode cX6_digits 12 = .ok (.iload_n 3, 1) := dk_29 (dk_at dksX6_digits_0 12 rfl rfl)
theorem dX6_digits_13 : decode cX6_digits 13 = .ok (.iload 4, 2) := dk_21 4 (dk_at dksX6_digits_0 13 rfl rfl)
theorem dX6_digits_15 : decode cX6_digits 15 = .ok (.iload 5, 2) := dk_21 5 (dk_at dksX6_digits_0 15 rfl rfl)
theorem dX6_digits_17 : decode cX6_digits 17 = .ok (.iconst 1, 1) := dk_4 (dk_at dksX6_digits_0 17 rfl rfl)
theorem dX6_digits_18 : decode cX6_digits 18 = .ok (.iadd, 1) := dk_96 (dk_at dksX6_digits_0 18 rfl rfl)
theorem dX6_digits_19 : decode cX6_digits 19 = .ok (.invokevirtual 93, 3) := dk_182 0 93 (dk_at dksX6_digits_0 19 rfl rfl)
theorem dX6_digits_22 : decode cX6_digits 22 = .ok (.lload_n 1, 1) := dk_31 (dk_at dksX6_digits_0 22 rfl rfl)
theorem dX6_digits_23 : decode cX6_digits 23 = .ok (.iload_n 3, 1) := dk_29 (dk_at dksX6_digits_0 23 rfl rfl)
theorem dX6_digits_24 : decode cX6_digits 24 = .ok (.i2l, 1) := dk_133 (dk_at dksX6_digits_1 0 rfl rfl)
theorem dX6_digits_25 : decode cX6_digits 25 = .ok (.lrem, 1) := dk_113 (dk_at dksX6_digits_1 1 rfl rfl)
theorem dX6_digits_26 : decode cX6_digits 26 = .ok (.l2i, 1) := dk_136 (dk_at dksX6_digits_1 2 rfl rfl)
theorem dX6_digits_27 : decode cX6_digits 27 = .ok (.istore 6, 2) := dk_54 6 (dk_at dksX6_digits_1 3 rfl rfl)
theorem dX6_digits_29 : decode cX6_digits 29 = .ok (.aload_n 0, 1) := dk_42 (dk_at dksX6_digits_1 5 rfl rfl)
theorem dX6_digits_30 : decode cX6_digits 30 = .ok (.iload 6, 2) := dk_21 6 (dk_at dksX6_digits_1 6 rfl rfl)
theorem dX6_digits_32 : decode cX6_digits 32 = .ok (.bipush 10, 2) := dk_16 10 (dk_at dksX6_digits_1 8 rfl rfl)
theorem dX6_digits_34 : decode cX6_digits 34 = .ok (.if_icmp .ge 11, 3) := dk_162 0 11 (dk_at dksX6_digits_1 10 rfl rfl)
theorem dX6_digits_37 : decode cX6_digits 37 = .ok (.bipush 48, 2) := dk_16 48 (dk_at dksX6_digits_1 13 rfl rfl)
theorem dX6_digits_39 : decode cX6_digits 39 = .ok (.iload 6, 2) := dk_21 6 (dk_at dksX6_digits_1 15 rfl rfl)
theorem dX6_digits_41 : decode cX6_digits 41 = .ok (.iadd, 1) := dk_96 (dk_at dksX6_digits_1 17 rfl rfl)
theorem dX6_digits_42 : decode cX6_digits 42 = .ok (.goto 11, 3) := dk_167 0 11 (dk_at dksX6_digits_1 18 rfl rfl)
theorem dX6_digits_45 : decode cX6_digits 45 = .ok (.bipush 97, 2) := dk_16 97 (dk_at dksX6_digits_1 21 rfl rfl)
theorem dX6_digits_47 : decode cX6_digits 47 = .ok (.iload 6, 2) := dk_21 6 (dk_at dksX6_digits_2 0 rfl rfl)
theorem dX6_digits_49 : decode cX6_digits 49 = .ok (.iadd, 1) := dk_96 (dk_at dksX6_digits_2 2 rfl rfl)
theorem dX6_digits_50 : decode cX6_digits 50 = .ok (.bipush 10, 2) := dk_16 10 (dk_at dksX6_digits_2 3 rfl rfl)
theorem dX6_digits_52 : decode cX6_digits 52 = .ok (.isub, 1) := dk_100 (dk_at dksX6_digits_2 5 rfl rfl)
theorem dX6_digits_53 : decode cX6_digits 53 = .ok (.invokevirtual 90, 3) := dk_182 0 90 (dk_at dksX6_digits_2 6 rfl rfl)
theorem dX6_digits_56 : decode cX6_digits 56 = .ok (.iload 4, 2) := dk_21 4 (dk_at dksX6_digits_2 9 rfl rfl)
theorem dX6_digits_58 : decode cX6_digits 58 = .ok (.ifCond .eq 21, 3) := dk_153 0 21 (dk_at dksX6_digits_2 11 rfl rfl)
theorem dX6_digits_61 : decode cX6_digits 61 = .ok (.iload 5, 2) := dk_21 5 (dk_at dksX6_digits_2 14 rfl rfl)
theorem dX6_digits_63 : decode cX6_digits 63 = .ok (.ifCond .le 16, 3) := dk_158 0 16 (dk_at dksX6_digits_2 16 rfl rfl)
theorem dX6_digits_66 : decode cX6_digits 66 = .ok (.iload 5, 2) := dk_21 5 (dk_at dksX6_digits_2 19 rfl rfl)
theorem dX6_digits_68 : decode cX6_digits 68 = .ok (.iconst 3, 1) := dk_6 (dk_at dksX6_digits_2 21 rfl rfl)
theorem dX6_digits_69 : decode cX6_digits 69 = .ok (.irem, 1) := dk_112 (dk_at dksX6_digits_2 22 rfl rfl)
theorem dX6_digits_70 : decode cX6_digits 70 = .ok (.ifCond .ne 9, 3) := dk_154 0 9 (dk_at dksX6_digits_3 0 rfl rfl)
theorem dX6_digits_73 : decode cX6_digits 73 = .ok (.aload_n 0, 1) := dk_42 (dk_at dksX6_digits_3 3 rfl rfl)
theorem dX6_digits_74 : decode cX6_digits 74 = .ok (.bipush 44, 2) := dk_16 44 (dk_at dksX6_digits_3 4 rfl rfl)
theorem dX6_digits_76 : decode cX6_digits 76 = .ok (.invokevirtual 90, 3) := dk_182 0 90 (dk_at dksX6_digits_3 6 rfl rfl)
theorem dX6_digits_79 : decode cX6_digits 79 = .ok (.return_, 1) := dk_177 (dk_at dksX6_digits_3 9 rfl rfl)
theorem q513 : (Jvm.Cond.initialized "LibraryDesk$Forme\x72") ∈ lw_all := lw_g (lw_at lw_m1 6 rfl) rfl
theorem q712 : (Jvm.Cond.instantiable "LibraryDesk$Forme\x72" (13 : Nat)) ∈ lw_all := lw_g (lw_at lw_m1 205 rfl) rfl
theorem q714 : (Jvm.Cond.instanceMethod ({ cls := "LibraryDesk$Forme\x72", name := "<init>", desc := "()V" } : Jvm.MethodName)) ∈ lw_all := lw_g (lw_at lw_m1 207 rfl) rfl
theorem q715 : (Jvm.Cond.code ({ cls := "LibraryDesk$Forme\x72", name := "<init>", desc := "()V" } : Jvm.MethodName) prog_9_method_1_code (1 : Nat) (Option.none : Option Jvm.ClassFile.FieldType)) ∈ lw_all := lw_g (lw_at lw_m1 208 rfl) rfl
theorem q716 : (Jvm.Cond.methodLink "LibraryDesk$Forme\x72" (3 : Nat) ({ cls := "java/lang/Object", name := "<init>", desc := "()V" } : Jvm.MethodName)) ∈ lw_all := lw_g (lw_at lw_m1 209 rfl) rfl
theorem q717 : (Jvm.Cond.fieldLink "LibraryDesk$Forme\x72" (22 : Nat) "LibraryDesk$Forme\x72" "text" "[B") ∈ lw_all := lw_g (lw_at lw_m1 210 rfl) rfl
theorem q719 : (Jvm.Cond.fieldLink "LibraryDesk$Forme\x72" (19 : Nat) "LibraryDesk$Forme\x72" "length" "I") ∈ lw_all := lw_g (lw_at lw_m1 212 rfl) rfl
theorem q721 : (Jvm.Cond.fieldLink "LibraryDesk$Forme\x72" (15 : Nat) "LibraryDesk$Forme\x72" "at" "I") ∈ lw_all := lw_g (lw_at lw_m1 214 rfl) rfl
theorem q723 : (Jvm.Cond.fieldLink "LibraryDesk$Forme\x72" (30 : Nat) "LibraryDesk$Forme\x72" "left" "Z") ∈ lw_all := lw_g (lw_at lw_m1 216 rfl) rfl
theorem q724 : (Jvm.Cond.fieldLink "LibraryDesk$Forme\x72" (34 : Nat) "LibraryDesk$Forme\x72" "zeros" "Z") ∈ lw_all := lw_g (lw_at lw_m1 217 rfl) rfl
theorem q725 : (Jvm.Cond.fieldLink "LibraryDesk$Forme\x72" (37 : Nat) "LibraryDesk$Forme\x72" "plus" "Z") ∈ lw_all := lw_g (lw_at lw_m1 218 rfl) rfl
theorem q726 : (Jvm.Cond.fieldLink "LibraryDesk$Forme\x72" (40 : Nat) "LibraryDesk$Forme\x72" "blank" "Z") ∈ lw_all := lw_g (lw_at lw_m1 219 rfl) rfl
theorem q727 : (Jvm.Cond.fieldLink "LibraryDesk$Forme\x72" (43 : Nat) "LibraryDesk$Forme\x72" "parts" "Z") ∈ lw_all := lw_g (lw_at lw_m1 220 rfl) rfl
theorem q728 : (Jvm.Cond.fieldLink "LibraryDesk$Forme\x72" (64 : Nat) "LibraryDesk$Forme\x72" "width" "I") ∈ lw_all := lw_g (lw_at lw_m1 221 rfl) rfl
theorem q729 : (Jvm.Cond.fieldLink "LibraryDesk$Forme\x72" (67 : Nat) "LibraryDesk$Forme\x72" "cut" "I") ∈ lw_all := lw_g (lw_at lw_m1 222 rfl) rfl
theorem q730 : (Jvm.Cond.fieldLink "LibraryDesk$Forme\x72" (70 : Nat) "LibraryDesk$Forme\x72" "lette\x72" "I") ∈ lw_all := lw_g (lw_at lw_m1 223 rfl) rfl
theorem q732 : (Jvm.Cond.fieldLink "LibraryDesk$Forme\x72" (9 : Nat) "LibraryDesk$Forme\x72" "field" "[B") ∈ lw_all := lw_g (lw_at lw_m1 225 rfl) rfl
theorem q733 : (Jvm.Cond.fieldLink "LibraryDesk$Forme\x72" (79 : Nat) "LibraryDesk$Forme\x72" "many" "I") ∈ lw_all := lw_g (lw_at lw_m1 226 rfl) rfl
theorem q734 : (Jvm.Cond.lays "LibraryDesk$Forme\x72" "LibraryDesk$Forme\x72" "text" "[B") ∈ lw_all := lw_g (lw_at lw_m1 227 rfl) rfl
theorem q735 : (Jvm.Cond.soleField "LibraryDesk$Forme\x72" "text") ∈ lw_all := lw_g (lw_at lw_m1 228 rfl) rfl
theorem q736 : (Jvm.Cond.lays "LibraryDesk$Forme\x72" "LibraryDesk$Forme\x72" "length" "I") ∈ lw_all := lw_g (lw_at lw_m1 229 rfl) rfl
theorem q737 : (Jvm.Cond.soleField "LibraryDesk$Forme\x72" "length") ∈ lw_all := lw_g (lw_at lw_m1 230 rfl) rfl
theorem q738 : (Jvm.Cond.lays "LibraryDesk$Forme\x72" "LibraryDesk$Forme\x72" "at" "I") ∈ lw_all := lw_g (lw_at lw_m1 231 rfl) rfl
theorem q739 : (Jvm.Cond.soleField "LibraryDesk$Forme\x72" "at") ∈ lw_all := lw_g (lw_at lw_m1 232 rfl) rfl
theorem q740 : (Jvm.Cond.lays "LibraryDesk$Forme\x72" "LibraryDesk$Forme\x72" "left" "Z") ∈ lw_all := lw_g (lw_at lw_m1 233 rfl) rfl
theorem q741 : (Jvm.Cond.soleField "LibraryDesk$Forme\x72" "left") ∈ lw_all := lw_g (lw_at lw_m1 234 rfl) rfl
theorem q742 : (Jvm.Cond.lays "LibraryDesk$Forme\x72" "LibraryDesk$Forme\x72" "zeros" "Z") ∈ lw_all := lw_g (lw_at lw_m1 235 rfl) rfl
theorem q743 : (Jvm.Cond.soleField "LibraryDesk$Forme\x72" "zeros") ∈ lw_all := lw_g (lw_at lw_m1 236 rfl) rfl
theorem q744 : (Jvm.Cond.lays "LibraryDesk$Forme\x72" "LibraryDesk$Forme\x72" "plus" "Z") ∈ lw_all := lw_g (lw_at lw_m1 237 rfl) rfl
theorem q745 : (Jvm.Cond.soleField "LibraryDesk$Forme\x72" "plus") ∈ lw_all := lw_g (lw_at lw_m1 238 rfl) rfl
theorem q746 : (Jvm.Cond.lays "LibraryDesk$Forme\x72" "LibraryDesk$Forme\x72" "blank" "Z") ∈ lw_all := lw_g (lw_at lw_m1 239 rfl) rfl
theorem q747 : (Jvm.Cond.soleField "LibraryDesk$Forme\x72" "blank") ∈ lw_all := lw_g (lw_at lw_m2 0 rfl) rfl
theorem q748 : (Jvm.Cond.lays "LibraryDesk$Forme\x72" "LibraryDesk$Forme\x72" "parts" "Z") ∈ lw_all := lw_g (lw_at lw_m2 1 rfl) rfl
theorem q749 : (Jvm.Cond.soleField "LibraryDesk$Forme\x72" "parts") ∈ lw_all := lw_g (lw_at lw_m2 2 rfl) rfl
theorem q750 : (Jvm.Cond.lays "LibraryDesk$Forme\x72" "LibraryDesk$Forme\x72" "width" "I") ∈ lw_all := lw_g (lw_at lw_m2 3 rfl) rfl
theorem q751 : (Jvm.Cond.soleField "LibraryDesk$Forme\x72" "width") ∈ lw_all := lw_g (lw_at lw_m2 4 rfl) rfl
theorem q752 : (Jvm.Cond.lays "LibraryDesk$Forme\x72" "LibraryDesk$Forme\x72" "cut" "I") ∈ lw_all := lw_g (lw_at lw_m2 5 rfl) rfl
theorem q753 : (Jvm.Cond.soleField "LibraryDesk$Forme\x72" "cut") ∈ lw_all := lw_g (lw_at lw_m2 6 rfl) rfl
theorem q754 : (Jvm.Cond.lays "LibraryDesk$Forme\x72" "LibraryDesk$Forme\x72" "lette\x72" "I") ∈ lw_all := lw_g (lw_at lw_m2 7 rfl) rfl
theorem q755 : (Jvm.Cond.soleField "LibraryDesk$Forme\x72" "lette\x72") ∈ lw_all := lw_g (lw_at lw_m2 8 rfl) rfl
theorem q756 : (Jvm.Cond.laysFinal "LibraryDesk$Forme\x72" "LibraryDesk$Forme\x72" "field" "[B") ∈ lw_all := lw_g (lw_at lw_m2 9 rfl) rfl
theorem q757 : (Jvm.Cond.soleField "LibraryDesk$Forme\x72" "field") ∈ lw_all := lw_g (lw_at lw_m2 10 rfl) rfl
theorem q758 : (Jvm.Cond.lays "LibraryDesk$Forme\x72" "LibraryDesk$Forme\x72" "many" "I") ∈ lw_all := lw_g (lw_at lw_m2 11 rfl) rfl
theorem q759 : (Jvm.Cond.soleField "LibraryDesk$Forme\x72" "many") ∈ lw_all := lw_g (lw_at lw_m2 12 rfl) rfl
theorem q760 : (Jvm.Cond.superclass "LibraryDesk$Forme\x72" "java/lang/Object") ∈ lw_all := lw_g (lw_at lw_m2 13 rfl) rfl
theorem q1632 : (Jvm.Cond.fieldLinkNest "LibraryDesk$Forme\x72" (122 : Nat) "LibraryDesk$TextThing" "size" "I" "LibraryDesk") ∈ lw_tbl := lw_at lw_m5 165 rfl
theorem q3445 : (Jvm.Cond.privateMethod ({ cls := "LibraryDesk$Forme\x72", name := "check", desc := "()V" } : Jvm.MethodName)) ∈ lw_tbl := lw_at lw_m13 58 rfl
theorem q3446 : (Jvm.Cond.instanceMethod ({ cls := "LibraryDesk$Forme\x72", name := "check", desc := "()V" } : Jvm.MethodName)) ∈ lw_all := lw_g (lw_at lw_m13 59 rfl) rfl
theorem q3447 : (Jvm.Cond.code ({ cls := "LibraryDesk$Forme\x72", name := "check", desc := "()V" } : Jvm.MethodName) prog_9_method_9_code (1 : Nat) (Option.none : Option Jvm.ClassFile.FieldType)) ∈ lw_all := lw_g (lw_at lw_m13 60 rfl) rfl
theorem q3448 : (Jvm.Cond.methodLink "LibraryDesk$Forme\x72" (77 : Nat) ({ cls := "LibraryDesk$Forme\x72", name := "field", desc := "()V" } : Jvm.MethodName)) ∈ lw_all := lw_g (lw_at lw_m13 61 rfl) rfl
theorem q3449 : (Jvm.Cond.privateMethod ({ cls := "LibraryDesk$Forme\x72", name := "field", desc := "()V" } : Jvm.MethodName)) ∈ lw_tbl := lw_at lw_m13 62 rfl
theorem q3450 : (Jvm.Cond.instanceMethod ({ cls := "LibraryDesk$Forme\x72", name := "field", desc := "()V" } : Jvm.MethodName)) ∈ lw_all := lw_g (lw_at lw_m13 63 rfl) rfl
theorem q3451 : (Jvm.Cond.code ({ cls := "LibraryDesk$Forme\x72", name := "field", desc := "()V" } : Jvm.MethodName) prog_9_method_7_code (2 : Nat) (Option.none : Option Jvm.ClassFile.FieldType)) ∈ lw_all := lw_g (lw_at lw_m13 64 rfl) rfl
theorem q3452 : (Jvm.Cond.methodLink "LibraryDesk$Forme\x72" (58 : Nat) ({ cls := "LibraryDesk$Forme\x72", name := "flags", desc := "()V" } : Jvm.MethodName)) ∈ lw_all := lw_g (lw_at lw_m13 65 rfl) rfl
theorem q3453 : (Jvm.Cond.privateMethod ({ cls := "LibraryDesk$Forme\x72", name := "flags", desc := "()V" } : Jvm.MethodName)) ∈ lw_tbl := lw_at lw_m13 66 rfl
theorem q3454 : (Jvm.Cond.instanceMethod ({ cls := "LibraryDesk$Forme\x72", name := "flags", desc := "()V" } : Jvm.MethodName)) ∈ lw_all := lw_g (lw_at lw_m13 67 rfl) rfl
theorem q3455 : (Jvm.Cond.code ({ cls := "LibraryDesk$Forme\x72", name := "flags", desc := "()V" } : Jvm.MethodName) prog_9_method_5_code (2 : Nat) (Option.none : Option Jvm.ClassFile.FieldType)) ∈ lw_all := lw_g (lw_at lw_m13 68 rfl) rfl
theorem q3456 : (Jvm.Cond.methodLink "LibraryDesk$Forme\x72" (46 : Nat) ({ cls := "LibraryDesk$Forme\x72", name := "look", desc := "()I" } : Jvm.MethodName)) ∈ lw_all := lw_g (lw_at lw_m13 69 rfl) rfl
theorem q3457 : (Jvm.Cond.privateMethod ({ cls := "LibraryDesk$Forme\x72", name := "look", desc := "()I" } : Jvm.MethodName)) ∈ lw_tbl := lw_at lw_m13 70 rfl
theorem q3458 : (Jvm.Cond.instanceMethod ({ cls := "LibraryDesk$Forme\x72", name := "look", desc := "()I" } : Jvm.MethodName)) ∈ lw_all := lw_g (lw_at lw_m13 71 rfl) rfl
theorem q3459 : (Jvm.Cond.code ({ cls := "LibraryDesk$Forme\x72", name := "look", desc := "()I" } : Jvm.MethodName) prog_9_method_2_code (1 : Nat) (Option.some Jvm.ClassFile.FieldType.int)) ∈ lw_all := lw_g (lw_at lw_m13 72 rfl) rfl
theorem q3460 : (Jvm.Cond.methodLink "LibraryDesk$Forme\x72" (50 : Nat) ({ cls := "LibraryDesk$Forme\x72", name := "flag", desc := "(Z)Z" } : Jvm.MethodName)) ∈ lw_all := lw_g (lw_at lw_m13 73 rfl) rfl
theorem q3461 : (Jvm.Cond.privateMethod ({ cls := "LibraryDesk$Forme\x72", name := "flag", desc := "(Z)Z" } : Jvm.MethodName)) ∈ lw_tbl := lw_at lw_m13 74 rfl
theorem q3462 : (Jvm.Cond.instanceMethod ({ cls := "LibraryDesk$Forme\x72", name := "flag", desc := "(Z)Z" } : Jvm.MethodName)) ∈ lw_all := lw_g (lw_at lw_m13 75 rfl) rfl
theorem q3463 : (Jvm.Cond.code ({ cls := "LibraryDesk$Forme\x72", name := "flag", desc := "(Z)Z" } : Jvm.MethodName) prog_9_method_4_code (2 : Nat) (Option.some Jvm.ClassFile.FieldType.boolean)) ∈ lw_all := lw_g (lw_at lw_m13 76 rfl) rfl
theorem q3464 : (Jvm.Cond.classLink "LibraryDesk$Forme\x72" (25 : Nat) "LibraryDesk$Broken") ∈ lw_all := lw_g (lw_at lw_m13 77 rfl) rfl
theorem q3465 : (Jvm.Cond.methodLinkNest "LibraryDesk$Forme\x72" (27 : Nat) ({ cls := "LibraryDesk$Broken", name := "<init>", desc := "(I)V" } : Jvm.MethodName) "LibraryDesk") ∈ lw_tbl := lw_at lw_m13 78 rfl
theorem q3466 : (Jvm.Cond.methodLink "LibraryDesk$Forme\x72" (61 : Nat) ({ cls := "LibraryDesk$Forme\x72", name := "numbe\x72", desc := "()I" } : Jvm.MethodName)) ∈ lw_all := lw_g (lw_at lw_m13 79 rfl) rfl
theorem q3467 : (Jvm.Cond.privateMethod ({ cls := "LibraryDesk$Forme\x72", name := "numbe\x72", desc := "()I" } : Jvm.MethodName)) ∈ lw_tbl := lw_at lw_m13 80 rfl
theorem q3468 : (Jvm.Cond.instanceMethod ({ cls := "LibraryDesk$Forme\x72", name := "numbe\x72", desc := "()I" } : Jvm.MethodName)) ∈ lw_all := lw_g (lw_at lw_m13 81 rfl) rfl
theorem q3469 : (Jvm.Cond.code ({ cls := "LibraryDesk$Forme\x72", name := "numbe\x72", desc := "()I" } : Jvm.MethodName) prog_9_method_6_code (3 : Nat) (Option.some Jvm.ClassFile.FieldType.int)) ∈ lw_all := lw_g (lw_at lw_m13 82 rfl) rfl
theorem q3470 : (Jvm.Cond.methodLink "LibraryDesk$Forme\x72" (54 : Nat) ({ cls := "LibraryDesk$Forme\x72", name := "isDigit", desc := "(I)Z" } : Jvm.MethodName)) ∈ lw_all := lw_g (lw_at lw_m13 83 rfl) rfl
theorem q3471 : (Jvm.Cond.static ({ cls := "LibraryDesk$Forme\x72", name := "isDigit", desc := "(I)Z" } : Jvm.MethodName)) ∈ lw_all := lw_g (lw_at lw_m13 84 rfl) rfl
theorem q3472 : (Jvm.Cond.code ({ cls := "LibraryDesk$Forme\x72", name := "isDigit", desc := "(I)Z" } : Jvm.MethodName) prog_9_method_3_code (1 : Nat) (Option.some Jvm.ClassFile.FieldType.boolean)) ∈ lw_all := lw_g (lw_at lw_m13 85 rfl) rfl
theorem q3473 : (Jvm.Cond.methodLink "LibraryDesk$Forme\x72" (73 : Nat) ({ cls := "LibraryDesk$Forme\x72", name := "isOdd", desc := "()Z" } : Jvm.MethodName)) ∈ lw_all := lw_g (lw_at lw_m13 86 rfl) rfl
theorem q3474 : (Jvm.Cond.privateMethod ({ cls := "LibraryDesk$Forme\x72", name := "isOdd", desc := "()Z" } : Jvm.MethodName)) ∈ lw_tbl := lw_at lw_m13 87 rfl
theorem q3475 : (Jvm.Cond.instanceMethod ({ cls := "LibraryDesk$Forme\x72", name := "isOdd", desc := "()Z" } : Jvm.MethodName)) ∈ lw_all := lw_g (lw_at lw_m13 88 rfl) rfl
theorem q3476 : (Jvm.Cond.code ({ cls := "LibraryDesk$Forme\x72", name := "isOdd", desc := "()Z" } : Jvm.MethodName) prog_9_method_8_code (2 : Nat) (Option.some Jvm.ClassFile.FieldType.boolean)) ∈ lw_all := lw_g (lw_at lw_m13 89 rfl) rfl
theorem q3485 : (Jvm.Cond.privateMethod ({ cls := "LibraryDesk$Forme\x72", name := "text", desc := "(LLibraryDesk$TextThing;LLibraryDesk$Out;)V" } : Jvm.MethodName)) ∈ lw_tbl := lw_at lw_m13 98 rfl
theorem q3486 : (Jvm.Cond.instanceMethod ({ cls := "LibraryDesk$Forme\x72", name := "text", desc := "(LLibraryDesk$TextThing;LLibraryDesk$Out;)V" } : Jvm.MethodName)) ∈ lw_all := lw_g (lw_at lw_m13 99 rfl) rfl
theorem q3487 : (Jvm.Cond.code ({ cls := "LibraryDesk$Forme\x72", name := "text", desc := "(LLibraryDesk$TextThing;LLibraryDesk$Out;)V" } : Jvm.MethodName) prog_9_method_17_code (4 : Nat) (Option.none : Option Jvm.ClassFile.FieldType)) ∈ lw_all := lw_g (lw_at lw_m13 100 rfl) rfl
theorem q3488 : (Jvm.Cond.methodLinkNest "LibraryDesk$Forme\x72" (127 : Nat) ({ cls := "LibraryDesk$TextThing", name := "get", desc := "(I)I" } : Jvm.MethodName) "LibraryDesk") ∈ lw_tbl := lw_at lw_m13 101 rfl
theorem q3489 : (Jvm.Cond.methodLink "LibraryDesk$Forme\x72" (90 : Nat) ({ cls := "LibraryDesk$Forme\x72", name := "put", desc := "(I)V" } : Jvm.MethodName)) ∈ lw_all := lw_g (lw_at lw_m13 102 rfl) rfl
theorem q3490 : (Jvm.Cond.privateMethod ({ cls := "LibraryDesk$Forme\x72", name := "put", desc := "(I)V" } : Jvm.MethodName)) ∈ lw_tbl := lw_at lw_m13 103 rfl
theorem q3491 : (Jvm.Cond.instanceMethod ({ cls := "LibraryDesk$Forme\x72", name := "put", desc := "(I)V" } : Jvm.MethodName)) ∈ lw_all := lw_g (lw_at lw_m13 104 rfl) rfl
theorem q3492 : (Jvm.Cond.code ({ cls := "LibraryDesk$Forme\x72", name := "put", desc := "(I)V" } : Jvm.MethodName) prog_9_method_10_code (2 : Nat) (Option.none : Option Jvm.ClassFile.FieldType)) ∈ lw_all := lw_g (lw_at lw_m13 105 rfl) rfl
theorem q3493 : (Jvm.Cond.methodLink "LibraryDesk$Forme\x72" (119 : Nat) ({ cls := "LibraryDesk$Forme\x72", name := "shorten", desc := "()V" } : Jvm.MethodName)) ∈ lw_all := lw_g (lw_at lw_m13 106 rfl) rfl
theorem q3494 : (Jvm.Cond.privateMethod ({ cls := "LibraryDesk$Forme\x72", name := "shorten", desc := "()V" } : Jvm.MethodName)) ∈ lw_tbl := lw_at lw_m13 107 rfl
theorem q3495 : (Jvm.Cond.instanceMethod ({ cls := "LibraryDesk$Forme\x72", name := "shorten", desc := "()V" } : Jvm.MethodName)) ∈ lw_all := lw_g (lw_at lw_m13 108 rfl) rfl
theorem q3496 : (Jvm.Cond.code ({ cls := "LibraryDesk$Forme\x72", name := "shorten", desc := "()V" } : Jvm.MethodName) prog_9_method_15_code (1 : Nat) (Option.none : Option Jvm.ClassFile.FieldType)) ∈ lw_all := lw_g (lw_at lw_m13 109 rfl) rfl
theorem q3497 : (Jvm.Cond.methodLink "LibraryDesk$Forme\x72" (104 : Nat) ({ cls := "LibraryDesk$Forme\x72", name := "write", desc := "(LLibraryDesk$Out;I)V" } : Jvm.MethodName)) ∈ lw_all := lw_g (lw_at lw_m13 110 rfl) rfl
theorem q3498 : (Jvm.Cond.privateMethod ({ cls := "LibraryDesk$Forme\x72", name := "write", desc := "(LLibraryDesk$Out;I)V" } : Jvm.MethodName)) ∈ lw_tbl := lw_at lw_m13 111 rfl
theorem q3499 : (Jvm.Cond.instanceMethod ({ cls := "LibraryDesk$Forme\x72", name := "write", desc := "(LLibraryDesk$Out;I)V" } : Jvm.MethodName)) ∈ lw_all := lw_g (lw_at lw_m13 112 rfl) rfl
theorem q3500 : (Jvm.Cond.code ({ cls := "LibraryDesk$Forme\x72", name := "write", desc := "(LLibraryDesk$Out;I)V" } : Jvm.MethodName) prog_9_method_13_code (5 : Nat) (Option.none : Option Jvm.ClassFile.FieldType)) ∈ lw_all := lw_g (lw_at lw_m13 113 rfl) rfl
theorem q3501 : (Jvm.Cond.methodLinkNest "LibraryDesk$Forme\x72" (97 : Nat) ({ cls := "LibraryDesk$Out", name := "add", desc := "(I)V" } : Jvm.MethodName) "LibraryDesk") ∈ lw_tbl := lw_at lw_m13 114 rfl
theorem q3503 : (Jvm.Cond.privateMethod ({ cls := "LibraryDesk$Forme\x72", name := "value", desc := "(ILLibraryDesk$Out;)V" } : Jvm.MethodName)) ∈ lw_tbl := lw_at lw_m13 116 rfl
theorem q3504 : (Jvm.Cond.instanceMethod ({ cls := "LibraryDesk$Forme\x72", name := "value", desc := "(ILLibraryDesk$Out;)V" } : Jvm.MethodName)) ∈ lw_all := lw_g (lw_at lw_m13 117 rfl) rfl
theorem q3505 : (Jvm.Cond.code ({ cls := "LibraryDesk$Forme\x72", name := "value", desc := "(ILLibraryDesk$Out;)V" } : Jvm.MethodName) prog_9_method_16_code (3 : Nat) (Option.none : Option Jvm.ClassFile.FieldType)) ∈ lw_all := lw_g (lw_at lw_m13 118 rfl) rfl
theorem q3506 : (Jvm.Cond.stringRef "LibraryDesk$Forme\x72" (108 : Nat) "false") ∈ lw_tbl := lw_at lw_m13 119 rfl
theorem q3507 : (Jvm.Cond.stringRef "LibraryDesk$Forme\x72" (110 : Nat) "true") ∈ lw_tbl := lw_at lw_m13 120 rfl
theorem q3508 : (Jvm.Cond.methodLink "LibraryDesk$Forme\x72" (112 : Nat) ({ cls := "LibraryDesk$Forme\x72", name := "string", desc := "(Ljava/lang/String;)V" } : Jvm.MethodName)) ∈ lw_all := lw_g (lw_at lw_m13 121 rfl) rfl
theorem q3509 : (Jvm.Cond.privateMethod ({ cls := "LibraryDesk$Forme\x72", name := "string", desc := "(Ljava/lang/String;)V" } : Jvm.MethodName)) ∈ lw_tbl := lw_at lw_m13 122 rfl
theorem q3510 : (Jvm.Cond.instanceMethod ({ cls := "LibraryDesk$Forme\x72", name := "string", desc := "(Ljava/lang/String;)V" } : Jvm.MethodName)) ∈ lw_all := lw_g (lw_at lw_m13 123 rfl) rfl
theorem q3511 : (Jvm.Cond.code ({ cls := "LibraryDesk$Forme\x72", name := "string", desc := "(Ljava/lang/String;)V" } : Jvm.MethodName) prog_9_method_11_code (3 : Nat) (Option.none : Option Jvm.ClassFile.FieldType)) ∈ lw_all := lw_g (lw_at lw_m13 124 rfl) rfl
theorem q3512 : (Jvm.Cond.methodLink "LibraryDesk$Forme\x72" (82 : Nat) ({ cls := "java/lang/String", name := "length", desc := "()I" } : Jvm.MethodName)) ∈ lw_all := lw_g (lw_at lw_m13 125 rfl) rfl
theorem q3522 : (Jvm.Cond.methodLink "LibraryDesk$Forme\x72" (86 : Nat) ({ cls := "java/lang/String", name := "charAt", desc := "(I)C" } : Jvm.MethodName)) ∈ lw_all := lw_g (lw_at lw_m13 135 rfl) rfl
theorem q3560 : (Jvm.Cond.methodLink "LibraryDesk$Forme\x72" (116 : Nat) ({ cls := "LibraryDesk$Forme\x72", name := "numbe\x72", desc := "(ILLibraryDesk$Out;)V" } : Jvm.MethodName)) ∈ lw_all := lw_g (lw_at lw_m13 173 rfl) rfl
theorem q3561 : (Jvm.Cond.privateMethod ({ cls := "LibraryDesk$Forme\x72", name := "numbe\x72", desc := "(ILLibraryDesk$Out;)V" } : Jvm.MethodName)) ∈ lw_tbl := lw_at lw_m13 174 rfl
theorem q3562 : (Jvm.Cond.instanceMethod ({ cls := "LibraryDesk$Forme\x72", name := "numbe\x72", desc := "(ILLibraryDesk$Out;)V" } : Jvm.MethodName)) ∈ lw_all := lw_g (lw_at lw_m13 175 rfl) rfl
theorem q3563 : (Jvm.Cond.code ({ cls := "LibraryDesk$Forme\x72", name := "numbe\x72", desc := "(ILLibraryDesk$Out;)V" } : Jvm.MethodName) prog_9_method_14_code (4 : Nat) (Option.none : Option Jvm.ClassFile.FieldType)) ∈ lw_all := lw_g (lw_at lw_m13 176 rfl) rfl
theorem q3564 : (Jvm.Cond.constantLong "LibraryDesk$Forme\x72" (102 : Nat) (4294967295 : Int64)) ∈ lw_all := lw_g (lw_at lw_m13 177 rfl) rfl
theorem q3565 : (Jvm.Cond.methodLink "LibraryDesk$Forme\x72" (93 : Nat) ({ cls := "LibraryDesk$Forme\x72", name := "digits", desc := "(JIZI)V" } : Jvm.MethodName)) ∈ lw_all := lw_g (lw_at lw_m13 178 rfl) rfl
theorem q3566 : (Jvm.Cond.privateMethod ({ cls := "LibraryDesk$Forme\x72", name := "digits", desc := "(JIZI)V" } : Jvm.MethodName)) ∈ lw_tbl := lw_at lw_m13 179 rfl
theorem q3567 : (Jvm.Cond.instanceMethod ({ cls := "LibraryDesk$Forme\x72", name := "digits", desc := "(JIZI)V" } : Jvm.MethodName)) ∈ lw_all := lw_g (lw_at lw_m13 180 rfl) rfl
theorem q3568 : (Jvm.Cond.code ({ cls := "LibraryDesk$Forme\x72", name := "digits", desc := "(JIZI)V" } : Jvm.MethodName) prog_9_method_12_code (7 : Nat) (Option.none : Option Jvm.ClassFile.FieldType)) ∈ lw_all := lw_g (lw_at lw_m13 181 rfl) rfl
theorem q6112 : (Jvm.Cond.castable "LibraryDesk$Forme\x72" "java/lang/Object") ∈ lw_tbl := lw_at lw_m24 85 rfl
theorem in_X6 : ∀ w ∈ wsX60, w ∈ lw_all := lw_in wsX60 [734, 736, 738, 740, 742, 744, 746, 748, 750, 752, 754, 756, 758] (by decide +kernel) (by decide +kernel)

