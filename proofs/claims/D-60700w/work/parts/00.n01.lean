/-! DECODE ROWS BY BYTES: one lemma an opcode; a method's code is cut into short pieces once, and a row reads its own piece alone. -/
set_option maxRecDepth 100000
/-- the code has just these bytes from pc on -/
def DkAt (code : ByteArray) (pc : Nat) (bs : List UInt8) : Prop := ∀ (j : Nat) (b : UInt8), bs[j]? = some b → code.data.toList[pc + j]? = some b
/-- the piece W has the bytes bs from its place j on -/
def dkIn (W : List UInt8) (j : Nat) (bs : List UInt8) : Bool := decide ((W.drop j).take bs.length = bs)
theorem dk_seg {l W T : List UInt8} {o o2 : Nat} (h : l.drop o = W ++ T) (n : Nat) (hn : W.length = n) (ho : o + n = o2) : l.drop o2 = T := by
  subst ho
  rw [← List.drop_drop, h, List.drop_left' hn]
theorem dk_at {code : ByteArray} {W T bs : List UInt8} {o pc : Nat} (h : code.data.toList.drop o = W ++ T) (j : Nat) (hp : o + j = pc) (hw : dkIn W j bs = true) : DkAt code pc bs := by
  subst hp
  intro i b e
  have h1 := of_decide_eq_true hw
  have h2 : i < bs.length := (List.getElem?_eq_some_iff.mp e).1
  have h3 : W[j + i]? = some b := by
    rw [← h1, List.getElem?_take, if_pos h2, List.getElem?_drop] at e
    exact e
  have h4 : j + i < W.length := (List.getElem?_eq_some_iff.mp h3).1
  have h5 : (code.data.toList.drop o)[j + i]? = some b := by
    rw [h, List.getElem?_append_left h4]
    exact h3
  rw [List.getElem?_drop, ← Nat.add_assoc] at h5
  exact h5
theorem dk_u1 {A : ByteArray} {p : Nat} {b : UInt8} (h : A.data.toList[p]? = some b) : (Reader.u1 : Reader DecodeError Nat) A p = .ok (b.toNat, p + 1) := by
  obtain ⟨h1, h2⟩ := List.getElem?_eq_some_iff.mp h
  have h3 : p < A.size := by simpa using h1
  have h4 : A[p]'h3 = b := h2
  have e : (Reader.u1 : Reader DecodeError Nat) A p = (if h : p < A.size then .ok (A[p].toNat, p + 1) else .error (HasTruncated.truncated p)) := by
    show (do if h : p < A.size then do set (p + 1); Pure.pure A[p].toNat else MonadExcept.throw (HasTruncated.truncated p) : Reader DecodeError Nat) A p = _
    by_cases hi : p < A.size
    · rw [dif_pos hi, dif_pos hi]; rfl
    · rw [dif_neg hi, dif_neg hi]; rfl
  rw [e, dif_pos h3, h4]
theorem dk_bind {α β : Type} {r : Reader DecodeError α} {f : α → Reader DecodeError β} {A : ByteArray} {p s : Nat} {a : α} (h : r A p = .ok (a, s)) : (r >>= f) A p = f a A s := by
  show (do let (a, s) ← r A p; f a A s : Except DecodeError (β × Nat)) = _
  rw [h]
  rfl
theorem dk_map {α β : Type} {r : Reader DecodeError α} {g : α → β} {A : ByteArray} {p s : Nat} {a : α} (h : r A p = .ok (a, s)) : (g <$> r) A p = .ok (g a, s) := by
  show (do let (a, s) ← r A p; .ok (g a, s) : Except DecodeError (β × Nat)) = _
  rw [h]
  rfl
theorem dk_u2 {A : ByteArray} {p : Nat} {a b : UInt8} (h : A.data.toList[p]? = some a) (h2 : A.data.toList[p + 1]? = some b) : (Reader.u2 : Reader DecodeError Nat) A p = .ok (a.toNat * 256 + b.toNat, p + 2) := by
  show (Reader.u1 >>= fun hi => Reader.u1 >>= fun lo => Pure.pure (hi * 256 + lo) : Reader DecodeError Nat) A p = _
  rw [dk_bind (dk_u1 h), dk_bind (dk_u1 h2)]
  rfl
theorem dk_of {code : ByteArray} {pc n : Nat} {i : Instr} (h : Decoder.instr pc code pc = .ok (i, pc + n)) : decode code pc = .ok (i, n) := by
  have e : decode code pc = (match Decoder.instr pc code pc with | .error x => .error x | .ok (j, s) => .ok (j, s - pc)) := by
    show (do let (j, s) ← Decoder.instr pc code pc; Pure.pure (j, s - pc) : Except DecodeError (Instr × Nat)) = _
    cases Decoder.instr pc code pc <;> rfl
  rw [e, h]
  show Except.ok (i, pc + n - pc) = _
  rw [Nat.add_sub_cancel_left]
theorem dk_1 {code : ByteArray} {pc : Nat} (h : DkAt code pc [1]) : decode code pc = .ok (.aconst_null, 1) := dk_of ((dk_bind (dk_u1 (h 0 _ rfl))).trans rfl)
theorem dk_2 {code : ByteArray} {pc : Nat} (h : DkAt code pc [2]) : decode code pc = .ok (.iconst (-1), 1) := dk_of ((dk_bind (dk_u1 (h 0 _ rfl))).trans rfl)
theorem dk_3 {code : ByteArray} {pc : Nat} (h : DkAt code pc [3]) : decode code pc = .ok (.iconst 0, 1) := dk_of ((dk_bind (dk_u1 (h 0 _ rfl))).trans rfl)
theorem dk_4 {code : ByteArray} {pc : Nat} (h : DkAt code pc [4]) : decode code pc = .ok (.iconst 1, 1) := dk_of ((dk_bind (dk_u1 (h 0 _ rfl))).trans rfl)
theorem dk_5 {code : ByteArray} {pc : Nat} (h : DkAt code pc [5]) : decode code pc = .ok (.iconst 2, 1) := dk_of ((dk_bind (dk_u1 (h 0 _ rfl))).trans rfl)
theorem dk_6 {code : ByteArray} {pc : Nat} (h : DkAt code pc [6]) : decode code pc = .ok (.iconst 3, 1) := dk_of ((dk_bind (dk_u1 (h 0 _ rfl))).trans rfl)
theorem dk_7 {code : ByteArray} {pc : Nat} (h : DkAt code pc [7]) : decode code pc = .ok (.iconst 4, 1) := dk_of ((dk_bind (dk_u1 (h 0 _ rfl))).trans rfl)
theorem dk_8 {code : ByteArray} {pc : Nat} (h : DkAt code pc [8]) : decode code pc = .ok (.iconst 5, 1) := dk_of ((dk_bind (dk_u1 (h 0 _ rfl))).trans rfl)
theorem dk_9 {code : ByteArray} {pc : Nat} (h : DkAt code pc [9]) : decode code pc = .ok (.lconst 0, 1) := dk_of ((dk_bind (dk_u1 (h 0 _ rfl))).trans rfl)
theorem dk_10 {code : ByteArray} {pc : Nat} (h : DkAt code pc [10]) : decode code pc = .ok (.lconst 1, 1) := dk_of ((dk_bind (dk_u1 (h 0 _ rfl))).trans rfl)
theorem dk_16 {code : ByteArray} {pc : Nat} (a : UInt8) (h : DkAt code pc [16, a]) : decode code pc = .ok (.bipush (Reader.signed 8 a.toNat), 2) := dk_of ((dk_bind (dk_u1 (h 0 _ rfl))).trans ((dk_bind (dk_map (dk_u1 (h 1 _ rfl)))).trans rfl))
theorem dk_17 {code : ByteArray} {pc : Nat} (a b : UInt8) (h : DkAt code pc [17, a, b]) : decode code pc = .ok (.sipush (Reader.signed 16 (a.toNat * 256 + b.toNat)), 3) := dk_of ((dk_bind (dk_u1 (h 0 _ rfl))).trans ((dk_bind (dk_map (dk_u2 (h 1 _ rfl) (h 2 _ rfl)))).trans rfl))
theorem dk_18 {code : ByteArray} {pc : Nat} (a : UInt8) (h : DkAt code pc [18, a]) : decode code pc = .ok (.ldc a.toNat, 2) := dk_of ((dk_bind (dk_u1 (h 0 _ rfl))).trans ((dk_bind (dk_u1 (h 1 _ rfl))).trans rfl))
theorem dk_19 {code : ByteArray} {pc : Nat} (a b : UInt8) (h : DkAt code pc [19, a, b]) : decode code pc = .ok (.ldc_w (a.toNat * 256 + b.toNat), 3) := dk_of ((dk_bind (dk_u1 (h 0 _ rfl))).trans ((dk_bind (dk_u2 (h 1 _ rfl) (h 2 _ rfl))).trans rfl))
theorem dk_20 {code : ByteArray} {pc : Nat} (a b : UInt8) (h : DkAt code pc [20, a, b]) : decode code pc = .ok (.ldc2_w (a.toNat * 256 + b.toNat), 3) := dk_of ((dk_bind (dk_u1 (h 0 _ rfl))).trans ((dk_bind (dk_u2 (h 1 _ rfl) (h 2 _ rfl))).trans rfl))
theorem dk_21 {code : ByteArray} {pc : Nat} (a : UInt8) (h : DkAt code pc [21, a]) : decode code pc = .ok (.iload a.toNat, 2) := dk_of ((dk_bind (dk_u1 (h 0 _ rfl))).trans ((dk_bind (dk_u1 (h 1 _ rfl))).trans rfl))
theorem dk_22 {code : ByteArray} {pc : Nat} (a : UInt8) (h : DkAt code pc [22, a]) : decode code pc = .ok (.lload a.toNat, 2) := dk_of ((dk_bind (dk_u1 (h 0 _ rfl))).trans ((dk_bind (dk_u1 (h 1 _ rfl))).trans rfl))
theorem dk_25 {code : ByteArray} {pc : Nat} (a : UInt8) (h : DkAt code pc [25, a]) : decode code pc = .ok (.aload a.toNat, 2) := dk_of ((dk_bind (dk_u1 (h 0 _ rfl))).trans ((dk_bind (dk_u1 (h 1 _ rfl))).trans rfl))
theorem dk_26 {code : ByteArray} {pc : Nat} (h : DkAt code pc [26]) : decode code pc = .ok (.iload_n 0, 1) := dk_of ((dk_bind (dk_u1 (h 0 _ rfl))).trans rfl)
theorem dk_27 {code : ByteArray} {pc : Nat} (h : DkAt code pc [27]) : decode code pc = .ok (.iload_n 1, 1) := dk_of ((dk_bind (dk_u1 (h 0 _ rfl))).trans rfl)
theorem dk_28 {code : ByteArray} {pc : Nat} (h : DkAt code pc [28]) : decode code pc = .ok (.iload_n 2, 1) := dk_of ((dk_bind (dk_u1 (h 0 _ rfl))).trans rfl)
theorem dk_29 {code : ByteArray} {pc : Nat} (h : DkAt code pc [29]) : decode code pc = .ok (.iload_n 3, 1) := dk_of ((dk_bind (dk_u1 (h 0 _ rfl))).trans rfl)
theorem dk_30 {code : ByteArray} {pc : Nat} (h : DkAt code pc [30]) : decode code pc = .ok (.lload_n 0, 1) := dk_of ((dk_bind (dk_u1 (h 0 _ rfl))).trans rfl)
theorem dk_31 {code : ByteArray} {pc : Nat} (h : DkAt code pc [31]) : decode code pc = .ok (.lload_n 1, 1) := dk_of ((dk_bind (dk_u1 (h 0 _ rfl))).trans rfl)
theorem dk_32 {code : ByteArray} {pc : Nat} (h : DkAt code pc [32]) : decode code pc = .ok (.lload_n 2, 1) := dk_of ((dk_bind (dk_u1 (h 0 _ rfl))).trans rfl)
theorem dk_33 {code : ByteArray} {pc : Nat} (h : DkAt code pc [33]) : decode code pc = .ok (.lload_n 3, 1) := dk_of ((dk_bind (dk_u1 (h 0 _ rfl))).trans rfl)
theorem dk_42 {code : ByteArray} {pc : Nat} (h : DkAt code pc [42]) : decode code pc = .ok (.aload_n 0, 1) := dk_of ((dk_bind (dk_u1 (h 0 _ rfl))).trans rfl)
theorem dk_43 {code : ByteArray} {pc : Nat} (h : DkAt code pc [43]) : decode code pc = .ok (.aload_n 1, 1) := dk_of ((dk_bind (dk_u1 (h 0 _ rfl))).trans rfl)
theorem dk_44 {code : ByteArray} {pc : Nat} (h : DkAt code pc [44]) : decode code pc = .ok (.aload_n 2, 1) := dk_of ((dk_bind (dk_u1 (h 0 _ rfl))).trans rfl)
theorem dk_45 {code : ByteArray} {pc : Nat} (h : DkAt code pc [45]) : decode code pc = .ok (.aload_n 3, 1) := dk_of ((dk_bind (dk_u1 (h 0 _ rfl))).trans rfl)
theorem dk_46 {code : ByteArray} {pc : Nat} (h : DkAt code pc [46]) : decode code pc = .ok (.iaload, 1) := dk_of ((dk_bind (dk_u1 (h 0 _ rfl))).trans rfl)
theorem dk_47 {code : ByteArray} {pc : Nat} (h : DkAt code pc [47]) : decode code pc = .ok (.laload, 1) := dk_of ((dk_bind (dk_u1 (h 0 _ rfl))).trans rfl)
theorem dk_50 {code : ByteArray} {pc : Nat} (h : DkAt code pc [50]) : decode code pc = .ok (.aaload, 1) := dk_of ((dk_bind (dk_u1 (h 0 _ rfl))).trans rfl)
theorem dk_51 {code : ByteArray} {pc : Nat} (h : DkAt code pc [51]) : decode code pc = .ok (.baload, 1) := dk_of ((dk_bind (dk_u1 (h 0 _ rfl))).trans rfl)
theorem dk_54 {code : ByteArray} {pc : Nat} (a : UInt8) (h : DkAt code pc [54, a]) : decode code pc = .ok (.istore a.toNat, 2) := dk_of ((dk_bind (dk_u1 (h 0 _ rfl))).trans ((dk_bind (dk_u1 (h 1 _ rfl))).trans rfl))
theorem dk_55 {code : ByteArray} {pc : Nat} (a : UInt8) (h : DkAt code pc [55, a]) : decode code pc = .ok (.lstore a.toNat, 2) := dk_of ((dk_bind (dk_u1 (h 0 _ rfl))).trans ((dk_bind (dk_u1 (h 1 _ rfl))).trans rfl))
theorem dk_58 {code : ByteArray} {pc : Nat} (a : UInt8) (h : DkAt code pc [58, a]) : decode code pc = .ok (.astore a.toNat, 2) := dk_of ((dk_bind (dk_u1 (h 0 _ rfl))).trans ((dk_bind (dk_u1 (h 1 _ rfl))).trans rfl))
theorem dk_60 {code : ByteArray} {pc : Nat} (h : DkAt code pc [60]) : decode code pc = .ok (.istore_n 1, 1) := dk_of ((dk_bind (dk_u1 (h 0 _ rfl))).trans rfl)
theorem dk_61 {code : ByteArray} {pc : Nat} (h : DkAt code pc [61]) : decode code pc = .ok (.istore_n 2, 1) := dk_of ((dk_bind (dk_u1 (h 0 _ rfl))).trans rfl)
theorem dk_62 {code : ByteArray} {pc : Nat} (h : DkAt code pc [62]) : decode code pc = .ok (.istore_n 3, 1) := dk_of ((dk_bind (dk_u1 (h 0 _ rfl))).trans rfl)
theorem dk_64 {code : ByteArray} {pc : Nat} (h : DkAt code pc [64]) : decode code pc = .ok (.lstore_n 1, 1) := dk_of ((dk_bind (dk_u1 (h 0 _ rfl))).trans rfl)
theorem dk_65 {code : ByteArray} {pc : Nat} (h : DkAt code pc [65]) : decode code pc = .ok (.lstore_n 2, 1) := dk_of ((dk_bind (dk_u1 (h 0 _ rfl))).trans rfl)
theorem dk_66 {code : ByteArray} {pc : Nat} (h : DkAt code pc [66]) : decode code pc = .ok (.lstore_n 3, 1) := dk_of ((dk_bind (dk_u1 (h 0 _ rfl))).trans rfl)
theorem dk_76 {code : ByteArray} {pc : Nat} (h : DkAt code pc [76]) : decode code pc = .ok (.astore_n 1, 1) := dk_of ((dk_bind (dk_u1 (h 0 _ rfl))).trans rfl)
theorem dk_77 {code : ByteArray} {pc : Nat} (h : DkAt code pc [77]) : decode code pc = .ok (.astore_n 2, 1) := dk_of ((dk_bind (dk_u1 (h 0 _ rfl))).trans rfl)
theorem dk_78 {code : ByteArray} {pc : Nat} (h : DkAt code pc [78]) : decode code pc = .ok (.astore_n 3, 1) := dk_of ((dk_bind (dk_u1 (h 0 _ rfl))).trans rfl)
theorem dk_79 {code : ByteArray} {pc : Nat} (h : DkAt code pc [79]) : decode code pc = .ok (.iastore, 1) := dk_of ((dk_bind (dk_u1 (h 0 _ rfl))).trans rfl)
theorem dk_80 {code : ByteArray} {pc : Nat} (h : DkAt code pc [80]) : decode code pc = .ok (.lastore, 1) := dk_of ((dk_bind (dk_u1 (h 0 _ rfl))).trans rfl)
theorem dk_83 {code : ByteArray} {pc : Nat} (h : DkAt code pc [83]) : decode code pc = .ok (.aastore, 1) := dk_of ((dk_bind (dk_u1 (h 0 _ rfl))).trans rfl)
theorem dk_84 {code : ByteArray} {pc : Nat} (h : DkAt code pc [84]) : decode code pc = .ok (.bastore, 1) := dk_of ((dk_bind (dk_u1 (h 0 _ rfl))).trans rfl)
theorem dk_87 {code : ByteArray} {pc : Nat} (h : DkAt code pc [87]) : decode code pc = .ok (.pop, 1) := dk_of ((dk_bind (dk_u1 (h 0 _ rfl))).trans rfl)
theorem dk_88 {code : ByteArray} {pc : Nat} (h : DkAt code pc [88]) : decode code pc = .ok (.pop2, 1) := dk_of ((dk_bind (dk_u1 (h 0 _ rfl))).trans rfl)
theorem dk_89 {code : ByteArray} {pc : Nat} (h : DkAt code pc [89]) : decode code pc = .ok (.dup, 1) := dk_of ((dk_bind (dk_u1 (h 0 _ rfl))).trans rfl)
theorem dk_92 {code : ByteArray} {pc : Nat} (h : DkAt code pc [92]) : decode code pc = .ok (.dup2, 1) := dk_of ((dk_bind (dk_u1 (h 0 _ rfl))).trans rfl)
theorem dk_96 {code : ByteArray} {pc : Nat} (h : DkAt code pc [96]) : decode code pc = .ok (.iadd, 1) := dk_of ((dk_bind (dk_u1 (h 0 _ rfl))).trans rfl)
theorem dk_97 {code : ByteArray} {pc : Nat} (h : DkAt code pc [97]) : decode code pc = .ok (.ladd, 1) := dk_of ((dk_bind (dk_u1 (h 0 _ rfl))).trans rfl)
theorem dk_100 {code : ByteArray} {pc : Nat} (h : DkAt code pc [100]) : decode code pc = .ok (.isub, 1) := dk_of ((dk_bind (dk_u1 (h 0 _ rfl))).trans rfl)
theorem dk_101 {code : ByteArray} {pc : Nat} (h : DkAt code pc [101]) : decode code pc = .ok (.lsub, 1) := dk_of ((dk_bind (dk_u1 (h 0 _ rfl))).trans rfl)
theorem dk_104 {code : ByteArray} {pc : Nat} (h : DkAt code pc [104]) : decode code pc = .ok (.imul, 1) := dk_of ((dk_bind (dk_u1 (h 0 _ rfl))).trans rfl)
theorem dk_105 {code : ByteArray} {pc : Nat} (h : DkAt code pc [105]) : decode code pc = .ok (.lmul, 1) := dk_of ((dk_bind (dk_u1 (h 0 _ rfl))).trans rfl)
theorem dk_108 {code : ByteArray} {pc : Nat} (h : DkAt code pc [108]) : decode code pc = .ok (.idiv, 1) := dk_of ((dk_bind (dk_u1 (h 0 _ rfl))).trans rfl)
theorem dk_109 {code : ByteArray} {pc : Nat} (h : DkAt code pc [109]) : decode code pc = .ok (.ldiv, 1) := dk_of ((dk_bind (dk_u1 (h 0 _ rfl))).trans rfl)
theorem dk_112 {code : ByteArray} {pc : Nat} (h : DkAt code pc [112]) : decode code pc = .ok (.irem, 1) := dk_of ((dk_bind (dk_u1 (h 0 _ rfl))).trans rfl)
theorem dk_113 {code : ByteArray} {pc : Nat} (h : DkAt code pc [113]) : decode code pc = .ok (.lrem, 1) := dk_of ((dk_bind (dk_u1 (h 0 _ rfl))).trans rfl)
theorem dk_116 {code : ByteArray} {pc : Nat} (h : DkAt code pc [116]) : decode code pc = .ok (.ineg, 1) := dk_of ((dk_bind (dk_u1 (h 0 _ rfl))).trans rfl)
theorem dk_117 {code : ByteArray} {pc : Nat} (h : DkAt code pc [117]) : decode code pc = .ok (.lneg, 1) := dk_of ((dk_bind (dk_u1 (h 0 _ rfl))).trans rfl)
theorem dk_120 {code : ByteArray} {pc : Nat} (h : DkAt code pc [120]) : decode code pc = .ok (.ishl, 1) := dk_of ((dk_bind (dk_u1 (h 0 _ rfl))).trans rfl)
theorem dk_121 {code : ByteArray} {pc : Nat} (h : DkAt code pc [121]) : decode code pc = .ok (.lshl, 1) := dk_of ((dk_bind (dk_u1 (h 0 _ rfl))).trans rfl)
theorem dk_122 {code : ByteArray} {pc : Nat} (h : DkAt code pc [122]) : decode code pc = .ok (.ishr, 1) := dk_of ((dk_bind (dk_u1 (h 0 _ rfl))).trans rfl)
theorem dk_123 {code : ByteArray} {pc : Nat} (h : DkAt code pc [123]) : decode code pc = .ok (.lshr, 1) := dk_of ((dk_bind (dk_u1 (h 0 _ rfl))).trans rfl)
theorem dk_124 {code : ByteArray} {pc : Nat} (h : DkAt code pc [124]) : decode code pc = .ok (.iushr, 1) := dk_of ((dk_bind (dk_u1 (h 0 _ rfl))).trans rfl)
theorem dk_125 {code : ByteArray} {pc : Nat} (h : DkAt code pc [125]) : decode code pc = .ok (.lushr, 1) := dk_of ((dk_bind (dk_u1 (h 0 _ rfl))).trans rfl)
theorem dk_126 {code : ByteArray} {pc : Nat} (h : DkAt code pc [126]) : decode code pc = .ok (.iand, 1) := dk_of ((dk_bind (dk_u1 (h 0 _ rfl))).trans rfl)
theorem dk_127 {code : ByteArray} {pc : Nat} (h : DkAt code pc [127]) : decode code pc = .ok (.land, 1) := dk_of ((dk_bind (dk_u1 (h 0 _ rfl))).trans rfl)
theorem dk_128 {code : ByteArray} {pc : Nat} (h : DkAt code pc [128]) : decode code pc = .ok (.ior, 1) := dk_of ((dk_bind (dk_u1 (h 0 _ rfl))).trans rfl)
theorem dk_129 {code : ByteArray} {pc : Nat} (h : DkAt code pc [129]) : decode code pc = .ok (.lor, 1) := dk_of ((dk_bind (dk_u1 (h 0 _ rfl))).trans rfl)
theorem dk_130 {code : ByteArray} {pc : Nat} (h : DkAt code pc [130]) : decode code pc = .ok (.ixor, 1) := dk_of ((dk_bind (dk_u1 (h 0 _ rfl))).trans rfl)
theorem dk_131 {code : ByteArray} {pc : Nat} (h : DkAt code pc [131]) : decode code pc = .ok (.lxor, 1) := dk_of ((dk_bind (dk_u1 (h 0 _ rfl))).trans rfl)
theorem dk_132 {code : ByteArray} {pc : Nat} (a b : UInt8) (h : DkAt code pc [132, a, b]) : decode code pc = .ok (.iinc a.toNat (Reader.signed 8 b.toNat), 3) := dk_of ((dk_bind (dk_u1 (h 0 _ rfl))).trans ((dk_bind (dk_u1 (h 1 _ rfl))).trans ((dk_bind (dk_map (dk_u1 (h 2 _ rfl)))).trans rfl)))
theorem dk_133 {code : ByteArray} {pc : Nat} (h : DkAt code pc [133]) : decode code pc = .ok (.i2l, 1) := dk_of ((dk_bind (dk_u1 (h 0 _ rfl))).trans rfl)
theorem dk_136 {code : ByteArray} {pc : Nat} (h : DkAt code pc [136]) : decode code pc = .ok (.l2i, 1) := dk_of ((dk_bind (dk_u1 (h 0 _ rfl))).trans rfl)
theorem dk_145 {code : ByteArray} {pc : Nat} (h : DkAt code pc [145]) : decode code pc = .ok (.i2b, 1) := dk_of ((dk_bind (dk_u1 (h 0 _ rfl))).trans rfl)
theorem dk_146 {code : ByteArray} {pc : Nat} (h : DkAt code pc [146]) : decode code pc = .ok (.i2c, 1) := dk_of ((dk_bind (dk_u1 (h 0 _ rfl))).trans rfl)
theorem dk_148 {code : ByteArray} {pc : Nat} (h : DkAt code pc [148]) : decode code pc = .ok (.lcmp, 1) := dk_of ((dk_bind (dk_u1 (h 0 _ rfl))).trans rfl)
theorem dk_153 {code : ByteArray} {pc : Nat} (a b : UInt8) (h : DkAt code pc [153, a, b]) : decode code pc = .ok (.ifCond .eq (Reader.signed 16 (a.toNat * 256 + b.toNat)), 3) := dk_of ((dk_bind (dk_u1 (h 0 _ rfl))).trans ((dk_bind (dk_map (dk_u2 (h 1 _ rfl) (h 2 _ rfl)))).trans rfl))
theorem dk_154 {code : ByteArray} {pc : Nat} (a b : UInt8) (h : DkAt code pc [154, a, b]) : decode code pc = .ok (.ifCond .ne (Reader.signed 16 (a.toNat * 256 + b.toNat)), 3) := dk_of ((dk_bind (dk_u1 (h 0 _ rfl))).trans ((dk_bind (dk_map (dk_u2 (h 1 _ rfl) (h 2 _ rfl)))).trans rfl))
theorem dk_155 {code : ByteArray} {pc : Nat} (a b : UInt8) (h : DkAt code pc [155, a, b]) : decode code pc = .ok (.ifCond .lt (Reader.signed 16 (a.toNat * 256 + b.toNat)), 3) := dk_of ((dk_bind (dk_u1 (h 0 _ rfl))).trans ((dk_bind (dk_map (dk_u2 (h 1 _ rfl) (h 2 _ rfl)))).trans rfl))
theorem dk_156 {code : ByteArray} {pc : Nat} (a b : UInt8) (h : DkAt code pc [156, a, b]) : decode code pc = .ok (.ifCond .ge (Reader.signed 16 (a.toNat * 256 + b.toNat)), 3) := dk_of ((dk_bind (dk_u1 (h 0 _ rfl))).trans ((dk_bind (dk_map (dk_u2 (h 1 _ rfl) (h 2 _ rfl)))).trans rfl))
theorem dk_157 {code : ByteArray} {pc : Nat} (a b : UInt8) (h : DkAt code pc [157, a, b]) : decode code pc = .ok (.ifCond .gt (Reader.signed 16 (a.toNat * 256 + b.toNat)), 3) := dk_of ((dk_bind (dk_u1 (h 0 _ rfl))).trans ((dk_bind (dk_map (dk_u2 (h 1 _ rfl) (h 2 _ rfl)))).trans rfl))
theorem dk_158 {code : ByteArray} {pc : Nat} (a b : UInt8) (h : DkAt code pc [158, a, b]) : decode code pc = .ok (.ifCond .le (Reader.signed 16 (a.toNat * 256 + b.toNat)), 3) := dk_of ((dk_bind (dk_u1 (h 0 _ rfl))).trans ((dk_bind (dk_map (dk_u2 (h 1 _ rfl) (h 2 _ rfl)))).trans rfl))
theorem dk_159 {code : ByteArray} {pc : Nat} (a b : UInt8) (h : DkAt code pc [159, a, b]) : decode code pc = .ok (.if_icmp .eq (Reader.signed 16 (a.toNat * 256 + b.toNat)), 3) := dk_of ((dk_bind (dk_u1 (h 0 _ rfl))).trans ((dk_bind (dk_map (dk_u2 (h 1 _ rfl) (h 2 _ rfl)))).trans rfl))
theorem dk_160 {code : ByteArray} {pc : Nat} (a b : UInt8) (h : DkAt code pc [160, a, b]) : decode code pc = .ok (.if_icmp .ne (Reader.signed 16 (a.toNat * 256 + b.toNat)), 3) := dk_of ((dk_bind (dk_u1 (h 0 _ rfl))).trans ((dk_bind (dk_map (dk_u2 (h 1 _ rfl) (h 2 _ rfl)))).trans rfl))
theorem dk_161 {code : ByteArray} {pc : Nat} (a b : UInt8) (h : DkAt code pc [161, a, b]) : decode code pc = .ok (.if_icmp .lt (Reader.signed 16 (a.toNat * 256 + b.toNat)), 3) := dk_of ((dk_bind (dk_u1 (h 0 _ rfl))).trans ((dk_bind (dk_map (dk_u2 (h 1 _ rfl) (h 2 _ rfl)))).trans rfl))
theorem dk_162 {code : ByteArray} {pc : Nat} (a b : UInt8) (h : DkAt code pc [162, a, b]) : decode code pc = .ok (.if_icmp .ge (Reader.signed 16 (a.toNat * 256 + b.toNat)), 3) := dk_of ((dk_bind (dk_u1 (h 0 _ rfl))).trans ((dk_bind (dk_map (dk_u2 (h 1 _ rfl) (h 2 _ rfl)))).trans rfl))
theorem dk_163 {code : ByteArray} {pc : Nat} (a b : UInt8) (h : DkAt code pc [163, a, b]) : decode code pc = .ok (.if_icmp .gt (Reader.signed 16 (a.toNat * 256 + b.toNat)), 3) := dk_of ((dk_bind (dk_u1 (h 0 _ rfl))).trans ((dk_bind (dk_map (dk_u2 (h 1 _ rfl) (h 2 _ rfl)))).trans rfl))
theorem dk_164 {code : ByteArray} {pc : Nat} (a b : UInt8) (h : DkAt code pc [164, a, b]) : decode code pc = .ok (.if_icmp .le (Reader.signed 16 (a.toNat * 256 + b.toNat)), 3) := dk_of ((dk_bind (dk_u1 (h 0 _ rfl))).trans ((dk_bind (dk_map (dk_u2 (h 1 _ rfl) (h 2 _ rfl)))).trans rfl))
theorem dk_167 {code : ByteArray} {pc : Nat} (a b : UInt8) (h : DkAt code pc [167, a, b]) : decode code pc = .ok (.goto (Reader.signed 16 (a.toNat * 256 + b.toNat)), 3) := dk_of ((dk_bind (dk_u1 (h 0 _ rfl))).trans ((dk_bind (dk_map (dk_u2 (h 1 _ rfl) (h 2 _ rfl)))).trans rfl))
theorem dk_172 {code : ByteArray} {pc : Nat} (h : DkAt code pc [172]) : decode code pc = .ok (.ireturn, 1) := dk_of ((dk_bind (dk_u1 (h 0 _ rfl))).trans rfl)
theorem dk_173 {code : ByteArray} {pc : Nat} (h : DkAt code pc [173]) : decode code pc = .ok (.lreturn, 1) := dk_of ((dk_bind (dk_u1 (h 0 _ rfl))).trans rfl)
theorem dk_176 {code : ByteArray} {pc : Nat} (h : DkAt code pc [176]) : decode code pc = .ok (.areturn, 1) := dk_of ((dk_bind (dk_u1 (h 0 _ rfl))).trans rfl)
theorem dk_177 {code : ByteArray} {pc : Nat} (h : DkAt code pc [177]) : decode code pc = .ok (.return_, 1) := dk_of ((dk_bind (dk_u1 (h 0 _ rfl))).trans rfl)
theorem dk_178 {code : ByteArray} {pc : Nat} (a b : UInt8) (h : DkAt code pc [178, a, b]) : decode code pc = .ok (.getstatic (a.toNat * 256 + b.toNat), 3) := dk_of ((dk_bind (dk_u1 (h 0 _ rfl))).trans ((dk_bind (dk_u2 (h 1 _ rfl) (h 2 _ rfl))).trans rfl))
theorem dk_180 {code : ByteArray} {pc : Nat} (a b : UInt8) (h : DkAt code pc [180, a, b]) : decode code pc = .ok (.getfield (a.toNat * 256 + b.toNat), 3) := dk_of ((dk_bind (dk_u1 (h 0 _ rfl))).trans ((dk_bind (dk_u2 (h 1 _ rfl) (h 2 _ rfl))).trans rfl))
theorem dk_181 {code : ByteArray} {pc : Nat} (a b : UInt8) (h : DkAt code pc [181, a, b]) : decode code pc = .ok (.putfield (a.toNat * 256 + b.toNat), 3) := dk_of ((dk_bind (dk_u1 (h 0 _ rfl))).trans ((dk_bind (dk_u2 (h 1 _ rfl) (h 2 _ rfl))).trans rfl))
theorem dk_182 {code : ByteArray} {pc : Nat} (a b : UInt8) (h : DkAt code pc [182, a, b]) : decode code pc = .ok (.invokevirtual (a.toNat * 256 + b.toNat), 3) := dk_of ((dk_bind (dk_u1 (h 0 _ rfl))).trans ((dk_bind (dk_u2 (h 1 _ rfl) (h 2 _ rfl))).trans rfl))
theorem dk_183 {code : ByteArray} {pc : Nat} (a b : UInt8) (h : DkAt code pc [183, a, b]) : decode code pc = .ok (.invokespecial (a.toNat * 256 + b.toNat), 3) := dk_of ((dk_bind (dk_u1 (h 0 _ rfl))).trans ((dk_bind (dk_u2 (h 1 _ rfl) (h 2 _ rfl))).trans rfl))
theorem dk_184 {code : ByteArray} {pc : Nat} (a b : UInt8) (h : DkAt code pc [184, a, b]) : decode code pc = .ok (.invokestatic (a.toNat * 256 + b.toNat), 3) := dk_of ((dk_bind (dk_u1 (h 0 _ rfl))).trans ((dk_bind (dk_u2 (h 1 _ rfl) (h 2 _ rfl))).trans rfl))
theorem dk_187 {code : ByteArray} {pc : Nat} (a b : UInt8) (h : DkAt code pc [187, a, b]) : decode code pc = .ok (.new (a.toNat * 256 + b.toNat), 3) := dk_of ((dk_bind (dk_u1 (h 0 _ rfl))).trans ((dk_bind (dk_u2 (h 1 _ rfl) (h 2 _ rfl))).trans rfl))
theorem dk_188_4 {code : ByteArray} {pc : Nat} (h : DkAt code pc [188, 4]) : decode code pc = .ok (.newarray .boolean, 2) := dk_of ((dk_bind (dk_u1 (h 0 _ rfl))).trans ((dk_bind (dk_u1 (h 1 _ rfl))).trans rfl))
theorem dk_188_8 {code : ByteArray} {pc : Nat} (h : DkAt code pc [188, 8]) : decode code pc = .ok (.newarray .byte, 2) := dk_of ((dk_bind (dk_u1 (h 0 _ rfl))).trans ((dk_bind (dk_u1 (h 1 _ rfl))).trans rfl))
theorem dk_188_10 {code : ByteArray} {pc : Nat} (h : DkAt code pc [188, 10]) : decode code pc = .ok (.newarray .int, 2) := dk_of ((dk_bind (dk_u1 (h 0 _ rfl))).trans ((dk_bind (dk_u1 (h 1 _ rfl))).trans rfl))
theorem dk_188_11 {code : ByteArray} {pc : Nat} (h : DkAt code pc [188, 11]) : decode code pc = .ok (.newarray .long, 2) := dk_of ((dk_bind (dk_u1 (h 0 _ rfl))).trans ((dk_bind (dk_u1 (h 1 _ rfl))).trans rfl))
theorem dk_189 {code : ByteArray} {pc : Nat} (a b : UInt8) (h : DkAt code pc [189, a, b]) : decode code pc = .ok (.anewarray (a.toNat * 256 + b.toNat), 3) := dk_of ((dk_bind (dk_u1 (h 0 _ rfl))).trans ((dk_bind (dk_u2 (h 1 _ rfl) (h 2 _ rfl))).trans rfl))
theorem dk_190 {code : ByteArray} {pc : Nat} (h : DkAt code pc [190]) : decode code pc = .ok (.arraylength, 1) := dk_of ((dk_bind (dk_u1 (h 0 _ rfl))).trans rfl)
theorem dk_191 {code : ByteArray} {pc : Nat} (h : DkAt code pc [191]) : decode code pc = .ok (.athrow, 1) := dk_of ((dk_bind (dk_u1 (h 0 _ rfl))).trans rfl)
theorem dk_192 {code : ByteArray} {pc : Nat} (a b : UInt8) (h : DkAt code pc [192, a, b]) : decode code pc = .ok (.checkcast (a.toNat * 256 + b.toNat), 3) := dk_of ((dk_bind (dk_u1 (h 0 _ rfl))).trans ((dk_bind (dk_u2 (h 1 _ rfl) (h 2 _ rfl))).trans rfl))
theorem dk_193 {code : ByteArray} {pc : Nat} (a b : UInt8) (h : DkAt code pc [193, a, b]) : decode code pc = .ok (.instanceof (a.toNat * 256 + b.toNat), 3) := dk_of ((dk_bind (dk_u1 (h 0 _ rfl))).trans ((dk_bind (dk_u2 (h 1 _ rfl) (h 2 _ rfl))).trans rfl))
theorem dk_198 {code : ByteArray} {pc : Nat} (a b : UInt8) (h : DkAt code pc [198, a, b]) : decode code pc = .ok (.ifnull (Reader.signed 16 (a.toNat * 256 + b.toNat)), 3) := dk_of ((dk_bind (dk_u1 (h 0 _ rfl))).trans ((dk_bind (dk_map (dk_u2 (h 1 _ rfl) (h 2 _ rfl)))).trans rfl))
theorem dk_199 {code : ByteArray} {pc : Nat} (a b : UInt8) (h : DkAt code pc [199, a, b]) : decode code pc = .ok (.ifnonnull (Reader.signed 16 (a.toNat * 256 + b.toNat)), 3) := dk_of ((dk_bind (dk_u1 (h 0 _ rfl))).trans ((dk_bind (dk_map (dk_u2 (h 1 _ rfl) (h 2 _ rfl)))).trans rfl))

/-! LibraryDeskLaw -/
set_option maxRecDepth 100000
def RX0 : String := "LibraryDeskLaw"
abbrev cX0_feed : ByteArray := method_3_code
def yX0_feed : MethodName := ⟨RX0, "feed", "(LLibraryDesk;IIIII[J)I"⟩
def dkwX0_feed_1 : List UInt8 := [172]
abbrev dktX0_feed_1 : List UInt8 := dkwX0_feed_1 ++ []
def dkwX0_feed_0 : List UInt8 := [25, 6, 3, 42, 27, 28, 29, 21, 4, 21, 5, 182, 0, 7, 133, 80, 167, 0, 7, 58, 7, 4, 172, 3]
abbrev dktX0_feed_0 : List UInt8 := dkwX0_feed_0 ++ dktX0_feed_1
theorem dksX0_feed_0 : cX0_feed.data.toList.drop 0 = dktX0_feed_0 := by decide +kernel
theorem dksX0_feed_1 : cX0_feed.data.toList.drop 24 = dktX0_feed_1 := dk_seg dksX0_feed_0 24 rfl rfl
theorem dX0_feed_0 : decode cX0_feed 0 = .ok (.aload 6, 2) := dk_25 6 (dk_at dksX0_feed_0 0 rfl rfl)
theorem dX0_feed_2 : decode cX0_feed 2 = .ok (.iconst 0, 1) := dk_3 (dk_at dksX0_feed_0 2 rfl rfl)
theorem dX0_feed_3 : decode cX0_feed 3 = .ok (.aload_n 0, 1) := dk_42 (dk_at dksX0_feed_0 3 rfl rfl)
theorem dX0_feed_4 : decode cX0_feed 4 = .ok (.iload_n 1, 1) := dk_27 (dk_at dksX0_feed_0 4 rfl rfl)
theorem dX0_feed_5 : decode cX0_feed 5 = .ok (.iload_n 2, 1) := dk_28 (dk_at dksX0_feed_0 5 rfl rfl)
theorem dX0_feed_6 : decode cX0_feed 6 = .ok (.iload_n 3, 1) := dk_29 (dk_at dksX0_feed_0 6 rfl rfl)
theorem dX0_feed_7 : decode cX0_feed 7 = .ok (.iload 4, 2) := dk_21 4 (dk_at dksX0_feed_0 7 rfl rfl)
theorem dX0_feed_9 : decode cX0_feed 9 = .ok (.iload 5, 2) := dk_21 5 (dk_at dksX0_feed_0 9 rfl rfl)
theorem dX0_feed_11 : decode cX0_feed 11 = .ok (.invokevirtual 7, 3) := dk_182 0 7 (dk_at dksX0_feed_0 11 rfl rfl)
theorem dX0_feed_14 : decode cX0_feed 14 = .ok (.i2l, 1) := dk_133 (dk_at dksX0_feed_0 14 rfl rfl)
theorem dX0_feed_15 : decode cX0_feed 15 = .ok (.lastore, 1) := dk_80 (dk_at dksX0_feed_0 15 rfl rfl)
theorem dX0_feed_16 : decode cX0_feed 16 = .ok (.goto 7, 3) := dk_167 0 7 (dk_at dksX0_feed_0 16 rfl rfl)
theorem dX0_feed_19 : decode cX0_feed 19 = .ok (.astore 7, 2) := dk_58 7 (dk_at dksX0_feed_0 19 rfl rfl)
theorem dX0_feed_21 : decode cX0_feed 21 = .ok (.iconst 1, 1) := dk_4 (dk_at dksX0_feed_0 21 rfl rfl)
theorem dX0_feed_22 : decode cX0_feed 22 = .ok (.ireturn, 1) := dk_172 (dk_at dksX0_feed_0 22 rfl rfl)
theorem dX0_feed_23 : decode cX0_feed 23 = .ok (.iconst 0, 1) := dk_3 (dk_at dksX0_feed_0 23 rfl rfl)
theorem dX0_feed_24 : decode cX0_feed 24 = .ok (.ireturn, 1) := dk_172 (dk_at dksX0_feed_1 0 rfl rfl)
abbrev cX0_end : ByteArray := method_4_code
def yX0_end : MethodName := ⟨RX0, "end", "(LLibraryDesk;I[J)I"⟩
def dkwX0_end_0 : List UInt8 := [44, 3, 42, 27, 182, 0, 15, 133, 80, 167, 0, 6, 78, 4, 172, 3, 172]
abbrev dktX0_end_0 : List UInt8 := dkwX0_end_0 ++ []
theorem dksX0_end_0 : cX0_end.data.toList.drop 0 = dktX0_end_0 := by decide +kernel
theorem dX0_end_0 : decode cX0_end 0 = .ok (.aload_n 2, 1) := dk_44 (dk_at dksX0_end_0 0 rfl rfl)
theorem dX0_end_1 : decode cX0_end 1 = .ok (.iconst 0, 1) := dk_3 (dk_at dksX0_end_0 1 rfl rfl)
theorem dX0_end_2 : decode cX0_end 2 = .ok (.aload_n 0, 1) := dk_42 (dk_at dksX0_end_0 2 rfl rfl)
theorem dX0_end_3 : decode cX0_end 3 = .ok (.iload_n 1, 1) := dk_27 (dk_at dksX0_end_0 3 rfl rfl)
theorem dX0_end_4 : decode cX0_end 4 = .ok (.invokevirtual 15, 3) := dk_182 0 15 (dk_at dksX0_end_0 4 rfl rfl)
theorem dX0_end_7 : decode cX0_end 7 = .ok (.i2l, 1) := dk_133 (dk_at dksX0_end_0 7 rfl rfl)
theorem dX0_end_8 : decode cX0_end 8 = .ok (.lastore, 1) := dk_80 (dk_at dksX0_end_0 8 rfl rfl)
theorem dX0_end_9 : decode cX0_end 9 = .ok (.goto 6, 3) := dk_167 0 6 (dk_at dksX0_end_0 9 rfl rfl)
theorem dX0_end_12 : decode cX0_end 12 = .ok (.astore_n 3, 1) := dk_78 (dk_at dksX0_end_0 12 rfl rfl)
theorem dX0_end_13 : decode cX0_end 13 = .ok (.iconst 1, 1) := dk_4 (dk_at dksX0_end_0 13 rfl rfl)
theorem dX0_end_14 : decode cX0_end 14 = .ok (.ireturn, 1) := dk_172 (dk_at dksX0_end_0 14 rfl rfl)
theorem dX0_end_15 : decode cX0_end 15 = .ok (.iconst 0, 1) := dk_3 (dk_at dksX0_end_0 15 rfl rfl)
theorem dX0_end_16 : decode cX0_end 16 = .ok (.ireturn, 1) := dk_172 (dk_at dksX0_end_0 16 rfl rfl)
abbrev cX0_make : ByteArray := method_5_code
def yX0_make : MethodName := ⟨RX0, "make", "(LLibraryDesk;III[J)I"⟩
def dkwX0_make_1 : List UInt8 := [58, 5, 6, 172, 3, 172]
abbrev dktX0_make_1 : List UInt8 := dkwX0_make_1 ++ []
def dkwX0_make_0 : List UInt8 := [25, 4, 3, 42, 27, 28, 29, 182, 0, 21, 133, 80, 167, 0, 15, 58, 5, 4, 172, 58, 5, 5, 172]
abbrev dktX0_make_0 : List UInt8 := dkwX0_make_0 ++ dktX0_make_1
theorem dksX0_make_0 : cX0_make.data.toList.drop 0 = dktX0_make_0 := by decide +kernel
theorem dksX0_make_1 : cX0_make.data.toList.drop 23 = dktX0_make_1 := dk_seg dksX0_make_0 23 rfl rfl
theorem dX0_make_0 : decode cX0_make 0 = .ok (.aload 4, 2) := dk_25 4 (dk_at dksX0_make_0 0 rfl rfl)
theorem dX0_make_2 : decode cX0_make 2 = .ok (.iconst 0, 1) := dk_3 (dk_at dksX0_make_0 2 rfl rfl)
theorem dX0_make_3 : decode cX0_make 3 = .ok (.aload_n 0, 1) := dk_42 (dk_at dksX0_make_0 3 rfl rfl)
theorem dX0_make_4 : decode cX0_make 4 = .ok (.iload_n 1, 1) := dk_27 (dk_at dksX0_make_0 4 rfl rfl)
theorem dX0_make_5 : decode cX0_make 5 = .ok (.iload_n 2, 1) := dk_28 (dk_at dksX0_make_0 5 rfl rfl)
theorem dX0_make_6 : decode cX0_make 6 = .ok (.iload_n 3, 1) := dk_29 (dk_at dksX0_make_0 6 rfl rfl)
theorem dX0_make_7 : decode cX0_make 7 = .ok (.invokevirtual 21, 3) := dk_182 0 21 (dk_at dksX0_make_0 7 rfl rfl)
theorem dX0_make_10 : decode cX0_make 10 = .ok (.i2l, 1) := dk_133 (dk_at dksX0_make_0 10 rfl rfl)
theorem dX0_make_11 : decode cX0_make 11 = .ok (.lastore, 1) := dk_80 (dk_at dksX0_make_0 11 rfl rfl)
theorem dX0_make_12 : decode cX0_make 12 = .ok (.goto 15, 3) := dk_167 0 15 (dk_at dksX0_make_0 12 rfl rfl)
theorem dX0_make_15 : decode cX0_make 15 = .ok (.astore 5, 2) := dk_58 5 (dk_at dksX0_make_0 15 rfl rfl)
theorem dX0_make_17 : decode cX0_make 17 = .ok (.iconst 1, 1) := dk_4 (dk_at dksX0_make_0 17 rfl rfl)
theorem dX0_make_18 : decode cX0_make 18 = .ok (.ireturn, 1) := dk_172 (dk_at dksX0_make_0 18 rfl rfl)
theorem dX0_make_19 : decode cX0_make 19 = .ok (.astore 5, 2) := dk_58 5 (dk_at dksX0_make_0 19 rfl rfl)
theorem dX0_make_21 : decode cX0_make 21 = .ok (.iconst 2, 1) := dk_5 (dk_at dksX0_make_0 21 rfl rfl)
theorem dX0_make_22 : decode cX0_make 22 = .ok (.ireturn, 1) := dk_172 (dk_at dksX0_make_0 22 rfl rfl)
theorem dX0_make_23 : decode cX0_make 23 = .ok (.astore 5, 2) := dk_58 5 (dk_at dksX0_make_1 0 rfl rfl)
theorem dX0_make_25 : decode cX0_make 25 = .ok (.iconst 3, 1) := dk_6 (dk_at dksX0_make_1 2 rfl rfl)
theorem dX0_make_26 : decode cX0_make 26 = .ok (.ireturn, 1) := dk_172 (dk_at dksX0_make_1 3 rfl rfl)
theorem dX0_make_27 : decode cX0_make 27 = .ok (.iconst 0, 1) := dk_3 (dk_at dksX0_make_1 4 rfl rfl)
theorem dX0_make_28 : decode cX0_make 28 = .ok (.ireturn, 1) := dk_172 (dk_at dksX0_make_1 5 rfl rfl)
abbrev cX0_drop : ByteArray := method_6_code
def yX0_drop : MethodName := ⟨RX0, "drop", "(LLibraryDesk;I[J)I"⟩
def dkwX0_drop_0 : List UInt8 := [44, 3, 42, 27, 182, 0, 29, 133, 80, 167, 0, 9, 78, 4, 172, 78, 5, 172, 3, 172]
abbrev dktX0_drop_0 : List UInt8 := dkwX0_drop_0 ++ []
theorem dksX0_drop_0 : cX0_drop.data.toList.drop 0 = dktX0_drop_0 := by decide +kernel
theorem dX0_drop_0 : decode cX0_drop 0 = .ok (.aload_n 2, 1) := dk_44 (dk_at dksX0_drop_0 0 rfl rfl)
theorem dX0_drop_1 : decode cX0_drop 1 = .ok (.iconst 0, 1) := dk_3 (dk_at dksX0_drop_0 1 rfl rfl)
theorem dX0_drop_2 : decode cX0_drop 2 = .ok (.aload_n 0, 1) := dk_42 (dk_at dksX0_drop_0 2 rfl rfl)
theorem dX0_drop_3 : decode cX0_drop 3 = .ok (.iload_n 1, 1) := dk_27 (dk_at dksX0_drop_0 3 rfl rfl)
theorem dX0_drop_4 : decode cX0_drop 4 = .ok (.invokevirtual 29, 3) := dk_182 0 29 (dk_at dksX0_drop_0 4 rfl rfl)
theorem dX0_drop_7 : decode cX0_drop 7 = .ok (.i2l, 1) := dk_133 (dk_at dksX0_drop_0 7 rfl rfl)
theorem dX0_drop_8 : decode cX0_drop 8 = .ok (.lastore, 1) := dk_80 (dk_at dksX0_drop_0 8 rfl rfl)
theorem dX0_drop_9 : decode cX0_drop 9 = .ok (.goto 9, 3) := dk_167 0 9 (dk_at dksX0_drop_0 9 rfl rfl)
theorem dX0_drop_12 : decode cX0_drop 12 = .ok (.astore_n 3, 1) := dk_78 (dk_at dksX0_drop_0 12 rfl rfl)
theorem dX0_drop_13 : decode cX0_drop 13 = .ok (.iconst 1, 1) := dk_4 (dk_at dksX0_drop_0 13 rfl rfl)
theorem dX0_drop_14 : decode cX0_drop 14 = .ok (.ireturn, 1) := dk_172 (dk_at dksX0_drop_0 14 rfl rfl)
theorem dX0_drop_15 : decode cX0_drop 15 = .ok (.astore_n 3, 1) := dk_78 (dk_at dksX0_drop_0 15 rfl rfl)
theorem dX0_drop_16 : decode cX0_drop 16 = .ok (.iconst 2, 1) := dk_5 (dk_at dksX0_drop_0 16 rfl rfl)
theorem dX0_drop_17 : decode cX0_drop 17 = .ok (.ireturn, 1) := dk_172 (dk_at dksX0_drop_0 17 rfl rfl)
theorem dX0_drop_18 : decode cX0_drop 18 = .ok (.iconst 0, 1) := dk_3 (dk_at dksX0_drop_0 18 rfl rfl)
theorem dX0_drop_19 : decode cX0_drop 19 = .ok (.ireturn, 1) := dk_172 (dk_at dksX0_drop_0 19 rfl rfl)
abbrev cX0_list : ByteArray := method_7_code
def yX0_list : MethodName := ⟨RX0, "list", "(LLibraryDesk;IIII[J)I"⟩
def dkwX0_list_1 : List UInt8 := [58, 6, 6, 172, 58, 6, 7, 172, 58, 6, 8, 172, 58, 6, 16, 6, 172, 3, 172]
abbrev dktX0_list_1 : List UInt8 := dkwX0_list_1 ++ []
def dkwX0_list_0 : List UInt8 := [25, 5, 3, 42, 27, 28, 29, 21, 4, 182, 0, 34, 80, 167, 0, 28, 58, 6, 4, 172, 58, 6, 5, 172]
abbrev dktX0_list_0 : List UInt8 := dkwX0_list_0 ++ dktX0_list_1
theorem dksX0_list_0 : cX0_list.data.toList.drop 0 = dktX0_list_0 := by decide +kernel
theorem dksX0_list_1 : cX0_list.data.toList.drop 24 = dktX0_list_1 := dk_seg dksX0_list_0 24 rfl rfl
theorem dX0_list_0 : decode cX0_list 0 = .ok (.aload 5, 2) := dk_25 5 (dk_at dksX0_list_0 0 rfl rfl)
theorem dX0_list_2 : decode cX0_list 2 = .ok (.iconst 0, 1) := dk_3 (dk_at dksX0_list_0 2 rfl rfl)
theorem dX0_list_3 : decode cX0_list 3 = .ok (.aload_n 0, 1) := dk_42 (dk_at dksX0_list_0 3 rfl rfl)
theorem dX0_list_4 : decode cX0_list 4 = .ok (.iload_n 1, 1) := dk_27 (dk_at dksX0_list_0 4 rfl rfl)
theorem dX0_list_5 : decode cX0_list 5 = .ok (.iload_n 2, 1) := dk_28 (dk_at dksX0_list_0 5 rfl rfl)
theorem dX0_list_6 : decode cX0_list 6 = .ok (.iload_n 3, 1) := dk_29 (dk_at dksX0_list_0 6 rfl rfl)
theorem dX0_list_7 : decode cX0_list 7 = .ok (.iload 4, 2) := dk_21 4 (dk_at dksX0_list_0 7 rfl rfl)
theorem dX0_list_9 : decode cX0_list 9 = .ok (.invokevirtual 34, 3) := dk_182 0 34 (dk_at dksX0_list_0 9 rfl rfl)
theorem dX0_list_12 : decode cX0_list 12 = .ok (.lastore, 1) := dk_80 (dk_at dksX0_list_0 12 rfl rfl)
theorem dX0_list_13 : decode cX0_list 13 = .ok (.goto 28, 3) := dk_167 0 28 (dk_at dksX0_list_0 13 rfl rfl)
theorem dX0_list_16 : decode cX0_list 16 = .ok (.astore 6, 2) := dk_58 6 (dk_at dksX0_list_0 16 rfl rfl)
theorem dX0_list_18 : decode cX0_list 18 = .ok (.iconst 1, 1) := dk_4 (dk_at dksX0_list_0 18 rfl rfl)
theorem dX0_list_19 : decode cX0_list 19 = .ok (.ireturn, 1) := dk_172 (dk_at dksX0_list_0 19 rfl rfl)
theorem dX0_list_20 : decode cX0_list 20 = .ok (.astore 6, 2) := dk_58 6 (dk_at dksX0_list_0 20 rfl rfl)
theorem dX0_list_22 : decode cX0_list 22 = .ok (.iconst 2, 1) := dk_5 (dk_at dksX0_list_0 22 rfl rfl)
theorem dX0_list_23 : decode cX0_list 23 = .ok (.ireturn, 1) := dk_172 (dk_at dksX0_list_0 23 rfl rfl)
theorem dX0_list_24 : decode cX0_list 24 = .ok (.astore 6, 2) := dk_58 6 (dk_at dksX0_list_1 0 rfl rfl)
theorem dX0_list_26 : decode cX0_list 26 = .ok (.iconst 3, 1) := dk_6 (dk_at dksX0_list_1 2 rfl rfl)
theorem dX0_list_27 : decode cX0_list 27 = .ok (.ireturn, 1) := dk_172 (dk_at dksX0_list_1 3 rfl rfl)
theorem dX0_list_28 : decode cX0_list 28 = .ok (.astore 6, 2) := dk_58 6 (dk_at dksX0_list_1 4 rfl rfl)
theorem dX0_list_30 : decode cX0_list 30 = .ok (.iconst 4, 1) := dk_7 (dk_at dksX0_list_1 6 rfl rfl)
theorem dX0_list_31 : decode cX0_list 31 = .ok (.ireturn, 1) := dk_172 (dk_at dksX0_list_1 7 rfl rfl)
theorem dX0_list_32 : decode cX0_list 32 = .ok (.astore 6, 2) := dk_58 6 (dk_at dksX0_list_1 8 rfl rfl)
theorem dX0_list_34 : decode cX0_list 34 = .ok (.iconst 5, 1) := dk_8 (dk_at dksX0_list_1 10 rfl rfl)
theorem dX0_list_35 : decode cX0_list 35 = .ok (.ireturn, 1) := dk_172 (dk_at dksX0_list_1 11 rfl rfl)
theorem dX0_list_36 : decode cX0_list 36 = .ok (.astore 6, 2) := dk_58 6 (dk_at dksX0_list_1 12 rfl rfl)
theorem dX0_list_38 : decode cX0_list 38 = .ok (.bipush 6, 2) := dk_16 6 (dk_at dksX0_list_1 14 rfl rfl)
theorem dX0_list_40 : decode cX0_list 40 = .ok (.ireturn, 1) := dk_172 (dk_at dksX0_list_1 16 rfl rfl)
theorem dX0_list_41 : decode cX0_list 41 = .ok (.iconst 0, 1) := dk_3 (dk_at dksX0_list_1 17 rfl rfl)
theorem dX0_list_42 : decode cX0_list 42 = .ok (.ireturn, 1) := dk_172 (dk_at dksX0_list_1 18 rfl rfl)
abbrev cX0_ring : ByteArray := method_8_code
def yX0_ring : MethodName := ⟨RX0, "ring", "(LLibraryDesk;III[J)I"⟩
def dkwX0_ring_1 : List UInt8 := [6, 172, 58, 5, 7, 172, 58, 5, 8, 172, 3, 172]
abbrev dktX0_ring_1 : List UInt8 := dkwX0_ring_1 ++ []
def dkwX0_ring_0 : List UInt8 := [25, 4, 3, 42, 27, 28, 29, 182, 0, 42, 80, 167, 0, 23, 58, 5, 4, 172, 58, 5, 5, 172, 58, 5]
abbrev dktX0_ring_0 : List UInt8 := dkwX0_ring_0 ++ dktX0_ring_1
theorem dksX0_ring_0 : cX0_ring.data.toList.drop 0 = dktX0_ring_0 := by decide +kernel
theorem dksX0_ring_1 : cX0_ring.data.toList.drop 24 = dktX0_ring_1 := dk_seg dksX0_ring_0 24 rfl rfl
theorem dX0_ring_0 : decode cX0_ring 0 = .ok (.aload 4, 2) := dk_25 4 (dk_at dksX0_ring_0 0 rfl rfl)
theorem dX0_ring_2 : decode cX0_ring 2 = .ok (.iconst 0, 1) := dk_3 (dk_at dksX0_ring_0 2 rfl rfl)
theorem dX0_ring_3 : decode cX0_ring 3 = .ok (.aload_n 0, 1) := dk_42 (dk_at dksX0_ring_0 3 rfl rfl)
theorem dX0_ring_4 : decode cX0_ring 4 = .ok (.iload_n 1, 1) := dk_27 (dk_at dksX0_ring_0 4 rfl rfl)
theorem dX0_ring_5 : decode cX0_ring 5 = .ok (.iload_n 2, 1) := dk_28 (dk_at dksX0_ring_0 5 rfl rfl)
theorem dX0_ring_6 : decode cX0_ring 6 = .ok (.iload_n 3, 1) := dk_29 (dk_at dksX0_ring_0 6 rfl rfl)
theorem dX0_ring_7 : decode cX0_ring 7 = .ok (.invokevirtual 42, 3) := dk_182 0 42 (dk_at dksX0_ring_0 7 rfl rfl)
theorem dX0_ring_10 : decode cX0_ring 10 = .ok (.lastore, 1) := dk_80 (dk_at dksX0_ring_0 10 rfl rfl)
theorem dX0_ring_11 : decode cX0_ring 11 = .ok (.goto 23, 3) := dk_167 0 23 (dk_at dksX0_ring_0 11 rfl rfl)
theorem dX0_ring_14 : decode cX0_ring 14 = .ok (.astore 5, 2) := dk_58 5 (dk_at dksX0_ring_0 14 rfl rfl)
theorem dX0_ring_16 : decode cX0_ring 16 = .ok (.iconst 1, 1) := dk_4 (dk_at dksX0_ring_0 16 rfl rfl)
theorem dX0_ring_17 : decode cX0_ring 17 = .ok (.ireturn, 1) := dk_172 (dk_at dksX0_ring_0 17 rfl rfl)
theorem dX0_ring_18 : decode cX0_ring 18 = .ok (.astore 5, 2) := dk_58 5 (dk_at dksX0_ring_0 18 rfl rfl)
theorem dX0_ring_20 : decode cX0_ring 20 = .ok (.iconst 2, 1) := dk_5 (dk_at dksX0_ring_0 20 rfl rfl)
theorem dX0_ring_21 : decode cX0_ring 21 = .ok (.ireturn, 1) := dk_172 (dk_at dksX0_ring_0 21 rfl rfl)
theorem dX0_ring_22 : decode cX0_ring 22 = .ok (.astore 5, 2) := dk_58 5 (dk_at dksX0_ring_0 22 rfl rfl)
theorem dX0_ring_24 : decode cX0_ring 24 = .ok (.iconst 3, 1) := dk_6 (dk_at dksX0_ring_1 0 rfl rfl)
theorem dX0_ring_25 : decode cX0_ring 25 = .ok (.ireturn, 1) := dk_172 (dk_at dksX0_ring_1 1 rfl rfl)
theorem dX0_ring_26 : decode cX0_ring 26 = .ok (.astore 5, 2) := dk_58 5 (dk_at dksX0_ring_1 2 rfl rfl)
theorem dX0_ring_28 : decode cX0_ring 28 = .ok (.iconst 4, 1) := dk_7 (dk_at dksX0_ring_1 4 rfl rfl)
theorem dX0_ring_29 : decode cX0_ring 29 = .ok (.ireturn, 1) := dk_172 (dk_at dksX0_ring_1 5 rfl rfl)
theorem dX0_ring_30 : decode cX0_ring 30 = .ok (.astore 5, 2) := dk_58 5 (dk_at dksX0_ring_1 6 rfl rfl)
theorem dX0_ring_32 : decode cX0_ring 32 = .ok (.iconst 5, 1) := dk_8 (dk_at dksX0_ring_1 8 rfl rfl)
theorem dX0_ring_33 : decode cX0_ring 33 = .ok (.ireturn, 1) := dk_172 (dk_at dksX0_ring_1 9 rfl rfl)
theorem dX0_ring_34 : decode cX0_ring 34 = .ok (.iconst 0, 1) := dk_3 (dk_at dksX0_ring_1 10 rfl rfl)
theorem dX0_ring_35 : decode cX0_ring 35 = .ok (.ireturn, 1) := dk_172 (dk_at dksX0_ring_1 11 rfl rfl)
abbrev cX0_map : ByteArray := method_9_code
def yX0_map : MethodName := ⟨RX0, "map", "(LLibraryDesk;IIII[J)I"⟩
def dkwX0_map_1 : List UInt8 := [58, 6, 6, 172, 58, 6, 7, 172, 58, 6, 8, 172, 3, 172]
abbrev dktX0_map_1 : List UInt8 := dkwX0_map_1 ++ []
def dkwX0_map_0 : List UInt8 := [25, 5, 3, 42, 27, 28, 29, 21, 4, 182, 0, 46, 80, 167, 0, 23, 58, 6, 4, 172, 58, 6, 5, 172]
abbrev dktX0_map_0 : List UInt8 := dkwX0_map_0 ++ dktX0_map_1
theorem dksX0_map_0 : cX0_map.data.toList.drop 0 = dktX0_map_0 := by decide +kernel
theorem dksX0_map_1 : cX0_map.data.toList.drop 24 = dktX0_map_1 := dk_seg dksX0_map_0 24 rfl rfl
theorem dX0_map_0 : decode cX0_map 0 = .ok (.aload 5, 2) := dk_25 5 (dk_at dksX0_map_0 0 rfl rfl)
theorem dX0_map_2 : decode cX0_map 2 = .ok (.iconst 0, 1) := dk_3 (dk_at dksX0_map_0 2 rfl rfl)
theorem dX0_map_3 : decode cX0_map 3 = .ok (.aload_n 0, 1) := dk_42 (dk_at dksX0_map_0 3 rfl rfl)
theorem dX0_map_4 : decode cX0_map 4 = .ok (.iload_n 1, 1) := dk_27 (dk_at dksX0_map_0 4 rfl rfl)
theorem dX0_map_5 : decode cX0_map 5 = .ok (.iload_n 2, 1) := dk_28 (dk_at dksX0_map_0 5 rfl rfl)
theorem dX0_map_6 : decode cX0_map 6 = .ok (.iload_n 3, 1) := dk_29 (dk_at dksX0_map_0 6 rfl rfl)
theorem dX0_map_7 : decode cX0_map 7 = .ok (.iload 4, 2) := dk_21 4 (dk_at dksX0_map_0 7 rfl rfl)
theorem dX0_map_9 : decode cX0_map 9 = .ok (.invokevirtual 46, 3) := dk_182 0 46 (dk_at dksX0_map_0 9 rfl rfl)
theorem dX0_map_12 : decode cX0_map 12 = .ok (.lastore, 1) := dk_80 (dk_at dksX0_map_0 12 rfl rfl)
theorem dX0_map_13 : decode cX0_map 13 = .ok (.goto 23, 3) := dk_167 0 23 (dk_at dksX0_map_0 13 rfl rfl)
theorem dX0_map_16 : decode cX0_map 16 = .ok (.astore 6, 2) := dk_58 6 (dk_at dksX0_map_0 16 rfl rfl)
theorem dX0_map_18 : decode cX0_map 18 = .ok (.iconst 1, 1) := dk_4 (dk_at dksX0_map_0 18 rfl rfl)
theorem dX0_map_19 : decode cX0_map 19 = .ok (.ireturn, 1) := dk_172 (dk_at dksX0_map_0 19 rfl rfl)
theorem dX0_map_20 : decode cX0_map 20 = .ok (.astore 6, 2) := dk_58 6 (dk_at dksX0_map_0 20 rfl rfl)
theorem dX0_map_22 : decode cX0_map 22 = .ok (.iconst 2, 1) := dk_5 (dk_at dksX0_map_0 22 rfl rfl)
theorem dX0_map_23 : decode cX0_map 23 = .ok (.ireturn, 1) := dk_172 (dk_at dksX0_map_0 23 rfl rfl)
theorem dX0_map_24 : decode cX0_map 24 = .ok (.astore 6, 2) := dk_58 6 (dk_at dksX0_map_1 0 rfl rfl)
theorem dX0_map_26 : decode cX0_map 26 = .ok (.iconst 3, 1) := dk_6 (dk_at dksX0_map_1 2 rfl rfl)
theorem dX0_map_27 : decode cX0_map 27 = .ok (.ireturn, 1) := dk_172 (dk_at dksX0_map_1 3 rfl rfl)
theorem dX0_map_28 : decode cX0_map 28 = .ok (.astore 6, 2) := dk_58 6 (dk_at dksX0_map_1 4 rfl rfl)
theorem dX0_map_30 : decode cX0_map 30 = .ok (.iconst 4, 1) := dk_7 (dk_at dksX0_map_1 6 rfl rfl)
theorem dX0_map_31 : decode cX0_map 31 = .ok (.ireturn, 1) := dk_172 (dk_at dksX0_map_1 7 rfl rfl)
theorem dX0_map_32 : decode cX0_map 32 = .ok (.astore 6, 2) := dk_58 6 (dk_at dksX0_map_1 8 rfl rfl)
theorem dX0_map_34 : decode cX0_map 34 = .ok (.iconst 5, 1) := dk_8 (dk_at dksX0_map_1 10 rfl rfl)
theorem dX0_map_35 : decode cX0_map 35 = .ok (.ireturn, 1) := dk_172 (dk_at dksX0_map_1 11 rfl rfl)
theorem dX0_map_36 : decode cX0_map 36 = .ok (.iconst 0, 1) := dk_3 (dk_at dksX0_map_1 12 rfl rfl)
theorem dX0_map_37 : decode cX0_map 37 = .ok (.ireturn, 1) := dk_172 (dk_at dksX0_map_1 13 rfl rfl)
abbrev cX0_view : ByteArray := method_10_code
def yX0_view : MethodName := ⟨RX0, "view", "(LLibraryDesk;IIII[J)I"⟩
def dkwX0_view_1 : List UInt8 := [172, 58, 6, 6, 172, 58, 6, 7, 172, 58, 6, 8, 172, 3, 172]
abbrev dktX0_view_1 : List UInt8 := dkwX0_view_1 ++ []
def dkwX0_view_0 : List UInt8 := [25, 5, 3, 42, 27, 28, 29, 21, 4, 182, 0, 49, 133, 80, 167, 0, 23, 58, 6, 4, 172, 58, 6, 5]
abbrev dktX0_view_0 : List UInt8 := dkwX0_view_0 ++ dktX0_view_1
theorem dksX0_view_0 : cX0_view.data.toList.drop 0 = dktX0_view_0 := by decide +kernel
theorem dksX0_view_1 : cX0_view.data.toList.drop 24 = dktX0_view_1 := dk_seg dksX0_view_0 24 rfl rfl
theorem dX0_view_0 : decode cX0_view 0 = .ok (.aload 5, 2) := dk_25 5 (dk_at dksX0_view_0 0 rfl rfl)
theorem dX0_view_2 : decode cX0_view 2 = .ok (.iconst 0, 1) := dk_3 (dk_at dksX0_view_0 2 rfl rfl)
theorem dX0_view_3 : decode cX0_view 3 = .ok (.aload_n 0, 1) := dk_42 (dk_at dksX0_view_0 3 rfl rfl)
theorem dX0_view_4 : decode cX0_view 4 = .ok (.iload_n 1, 1) := dk_27 (dk_at dksX0_view_0 4 rfl rfl)
theorem dX0_view_5 : decode cX0_view 5 = .ok (.iload_n 2, 1) := dk_28 (dk_at dksX0_view_0 5 rfl rfl)
theorem dX0_view_6 : decode cX0_view 6 = .ok (.iload_n 3, 1) := dk_29 (dk_at dksX0_view_0 6 rfl rfl)
theorem dX0_view_7 : decode cX0_view 7 = .ok (.iload 4, 2) := dk_21 4 (dk_at dksX0_view_0 7 rfl rfl)
theorem dX0_view_9 : decode cX0_view 9 = .ok (.invokevirtual 49, 3) := dk_182 0 49 (dk_at dksX0_view_0 9 rfl rfl)
theorem dX0_view_12 : decode cX0_view 12 = .ok (.i2l, 1) := dk_133 (dk_at dksX0_view_0 12 rfl rfl)
theorem dX0_view_13 : decode cX0_view 13 = .ok (.lastore, 1) := dk_80 (dk_at dksX0_view_0 13 rfl rfl)
theorem dX0_view_14 : decode cX0_view 14 = .ok (.goto 23, 3) := dk_167 0 23 (dk_at dksX0_view_0 14 rfl rfl)
theorem dX0_view_17 : decode cX0_view 17 = .ok (.astore 6, 2) := dk_58 6 (dk_at dksX0_view_0 17 rfl rfl)
theorem dX0_view_19 : decode cX0_view 19 = .ok (.iconst 1, 1) := dk_4 (dk_at dksX0_view_0 19 rfl rfl)
theorem dX0_view_20 : decode cX0_view 20 = .ok (.ireturn, 1) := dk_172 (dk_at dksX0_view_0 20 rfl rfl)
theorem dX0_view_21 : decode cX0_view 21 = .ok (.astore 6, 2) := dk_58 6 (dk_at dksX0_view_0 21 rfl rfl)
theorem dX0_view_23 : decode cX0_view 23 = .ok (.iconst 2, 1) := dk_5 (dk_at dksX0_view_0 23 rfl rfl)
theorem dX0_view_24 : decode cX0_view 24 = .ok (.ireturn, 1) := dk_172 (dk_at dksX0_view_1 0 rfl rfl)
theorem dX0_view_25 : decode cX0_view 25 = .ok (.astore 6, 2) := dk_58 6 (dk_at dksX0_view_1 1 rfl rfl)
theorem dX0_view_27 : decode cX0_view 27 = .ok (.iconst 3, 1) := dk_6 (dk_at dksX0_view_1 3 rfl rfl)
theorem dX0_view_28 : decode cX0_view 28 = .ok (.ireturn, 1) := dk_172 (dk_at dksX0_view_1 4 rfl rfl)
theorem dX0_view_29 : decode cX0_view 29 = .ok (.astore 6, 2) := dk_58 6 (dk_at dksX0_view_1 5 rfl rfl)
theorem dX0_view_31 : decode cX0_view 31 = .ok (.iconst 4, 1) := dk_7 (dk_at dksX0_view_1 7 rfl rfl)
theorem dX0_view_32 : decode cX0_view 32 = .ok (.ireturn, 1) := dk_172 (dk_at dksX0_view_1 8 rfl rfl)
theorem dX0_view_33 : decode cX0_view 33 = .ok (.astore 6, 2) := dk_58 6 (dk_at dksX0_view_1 9 rfl rfl)
theorem dX0_view_35 : decode cX0_view 35 = .ok (.iconst 5, 1) := dk_8 (dk_at dksX0_view_1 11 rfl rfl)
theorem dX0_view_36 : decode cX0_view 36 = .ok (.ireturn, 1) := dk_172 (dk_at dksX0_view_1 12 rfl rfl)
theorem dX0_view_37 : decode cX0_view 37 = .ok (.iconst 0, 1) := dk_3 (dk_at dksX0_view_1 13 rfl rfl)
theorem dX0_view_38 : decode cX0_view 38 = .ok (.ireturn, 1) := dk_172 (dk_at dksX0_view_1 14 rfl rfl)
abbrev cX0_cursor : ByteArray := method_11_code
def yX0_cursor : MethodName := ⟨RX0, "curso\x72", "(LLibraryDesk;I[J)I"⟩
def dkwX0_cursor_0 : List UInt8 := [44, 3, 42, 27, 182, 0, 53, 133, 80, 167, 0, 12, 78, 4, 172, 78, 5, 172, 78, 6, 172, 3, 172]
abbrev dktX0_cursor_0 : List UInt8 := dkwX0_cursor_0 ++ []
theorem dksX0_cursor_0 : cX0_cursor.data.toList.drop 0 = dktX0_cursor_0 := by decide +kernel
theorem dX0_cursor_0 : decode cX0_cursor 0 = .ok (.aload_n 2, 1) := dk_44 (dk_at dksX0_cursor_0 0 rfl rfl)
theorem dX0_cursor_1 : decode cX0_cursor 1 = .ok (.iconst 0, 1) := dk_3 (dk_at dksX0_cursor_0 1 rfl rfl)
theorem dX0_cursor_2 : decode cX0_cursor 2 = .ok (.aload_n 0, 1) := dk_42 (dk_at dksX0_cursor_0 2 rfl rfl)
theorem dX0_cursor_3 : decode cX0_cursor 3 = .ok (.iload_n 1, 1) := dk_27 (dk_at dksX0_cursor_0 3 rfl rfl)
theorem dX0_cursor_4 : decode cX0_cursor 4 = .ok (.invokevirtual 53, 3) := dk_182 0 53 (dk_at dksX0_cursor_0 4 rfl rfl)
theorem dX0_cursor_7 : decode cX0_cursor 7 = .ok (.i2l, 1) := dk_133 (dk_at dksX0_cursor_0 7 rfl rfl)
theorem dX0_cursor_8 : decode cX0_cursor 8 = .ok (.lastore, 1) := dk_80 (dk_at dksX0_cursor_0 8 rfl rfl)
theorem dX0_cursor_9 : decode cX0_cursor 9 = .ok (.goto 12, 3) := dk_167 0 12 (dk_at dksX0_cursor_0 9 rfl rfl)
theorem dX0_cursor_12 : decode cX0_cursor 12 = .ok (.astore_n 3, 1) := dk_78 (dk_at dksX0_cursor_0 12 rfl rfl)
theorem dX0_cursor_13 : decode cX0_cursor 13 = .ok (.iconst 1, 1) := dk_4 (dk_at dksX0_cursor_0 13 rfl rfl)
theorem dX0_cursor_14 : decode cX0_cursor 14 = .ok (.ireturn, 1) := dk_172 (dk_at dksX0_cursor_0 14 rfl rfl)
theorem dX0_cursor_15 : decode cX0_cursor 15 = .ok (.astore_n 3, 1) := dk_78 (dk_at dksX0_cursor_0 15 rfl rfl)
theorem dX0_cursor_16 : decode cX0_cursor 16 = .ok (.iconst 2, 1) := dk_5 (dk_at dksX0_cursor_0 16 rfl rfl)
theorem dX0_cursor_17 : decode cX0_cursor 17 = .ok (.ireturn, 1) := dk_172 (dk_at dksX0_cursor_0 17 rfl rfl)
theorem dX0_cursor_18 : decode cX0_cursor 18 = .ok (.astore_n 3, 1) := dk_78 (dk_at dksX0_cursor_0 18 rfl rfl)
theorem dX0_cursor_19 : decode cX0_cursor 19 = .ok (.iconst 3, 1) := dk_6 (dk_at dksX0_cursor_0 19 rfl rfl)
theorem dX0_cursor_20 : decode cX0_cursor 20 = .ok (.ireturn, 1) := dk_172 (dk_at dksX0_cursor_0 20 rfl rfl)
theorem dX0_cursor_21 : decode cX0_cursor 21 = .ok (.iconst 0, 1) := dk_3 (dk_at dksX0_cursor_0 21 rfl rfl)
theorem dX0_cursor_22 : decode cX0_cursor 22 = .ok (.ireturn, 1) := dk_172 (dk_at dksX0_cursor_0 22 rfl rfl)
abbrev cX0_move : ByteArray := method_12_code
def yX0_move : MethodName := ⟨RX0, "move", "(LLibraryDesk;III[J)I"⟩
def dkwX0_move_1 : List UInt8 := [6, 172, 58, 5, 7, 172, 58, 5, 8, 172, 3, 172]
abbrev dktX0_move_1 : List UInt8 := dkwX0_move_1 ++ []
def dkwX0_move_0 : List UInt8 := [25, 4, 3, 42, 27, 28, 29, 182, 0, 56, 80, 167, 0, 23, 58, 5, 4, 172, 58, 5, 5, 172, 58, 5]
abbrev dktX0_move_0 : List UInt8 := dkwX0_move_0 ++ dktX0_move_1
theorem dksX0_move_0 : cX0_move.data.toList.drop 0 = dktX0_move_0 := by decide +kernel
theorem dksX0_move_1 : cX0_move.data.toList.drop 24 = dktX0_move_1 := dk_seg dksX0_move_0 24 rfl rfl
theorem dX0_move_0 : decode cX0_move 0 = .ok (.aload 4, 2) := dk_25 4 (dk_at dksX0_move_0 0 rfl rfl)
theorem dX0_move_2 : decode cX0_move 2 = .ok (.iconst 0, 1) := dk_3 (dk_at dksX0_move_0 2 rfl rfl)
theorem dX0_move_3 : decode cX0_move 3 = .ok (.aload_n 0, 1) := dk_42 (dk_at dksX0_move_0 3 rfl rfl)
theorem dX0_move_4 : decode cX0_move 4 = .ok (.iload_n 1, 1) := dk_27 (dk_at dksX0_move_0 4 rfl rfl)
theorem dX0_move_5 : decode cX0_move 5 = .ok (.iload_n 2, 1) := dk_28 (dk_at dksX0_move_0 5 rfl rfl)
theorem dX0_move_6 : decode cX0_move 6 = .ok (.iload_n 3, 1) := dk_29 (dk_at dksX0_move_0 6 rfl rfl)
theorem dX0_move_7 : decode cX0_move 7 = .ok (.invokevirtual 56, 3) := dk_182 0 56 (dk_at dksX0_move_0 7 rfl rfl)
theorem dX0_move_10 : decode cX0_move 10 = .ok (.lastore, 1) := dk_80 (dk_at dksX0_move_0 10 rfl rfl)
theorem dX0_move_11 : decode cX0_move 11 = .ok (.goto 23, 3) := dk_167 0 23 (dk_at dksX0_move_0 11 rfl rfl)
theorem dX0_move_14 : decode cX0_move 14 = .ok (.astore 5, 2) := dk_58 5 (dk_at dksX0_move_0 14 rfl rfl)
theorem dX0_move_16 : decode cX0_move 16 = .ok (.iconst 1, 1) := dk_4 (dk_at dksX0_move_0 16 rfl rfl)
theorem dX0_move_17 : decode cX0_move 17 = .ok (.ireturn, 1) := dk_172 (dk_at dksX0_move_0 17 rfl rfl)
theorem dX0_move_18 : decode cX0_move 18 = .ok (.astore 5, 2) := dk_58 5 (dk_at dksX0_move_0 18 rfl rfl)
theorem dX0_move_20 : decode cX0_move 20 = .ok (.iconst 2, 1) := dk_5 (dk_at dksX0_move_0 20 rfl rfl)
theorem dX0_move_21 : decode cX0_move 21 = .ok (.ireturn, 1) := dk_172 (dk_at dksX0_move_0 21 rfl rfl)
theorem dX0_move_22 : decode cX0_move 22 = .ok (.astore 5, 2) := dk_58 5 (dk_at dksX0_move_0 22 rfl rfl)
theorem dX0_move_24 : decode cX0_move 24 = .ok (.iconst 3, 1) := dk_6 (dk_at dksX0_move_1 0 rfl rfl)
theorem dX0_move_25 : decode cX0_move 25 = .ok (.ireturn, 1) := dk_172 (dk_at dksX0_move_1 1 rfl rfl)
theorem dX0_move_26 : decode cX0_move 26 = .ok (.astore 5, 2) := dk_58 5 (dk_at dksX0_move_1 2 rfl rfl)
theorem dX0_move_28 : decode cX0_move 28 = .ok (.iconst 4, 1) := dk_7 (dk_at dksX0_move_1 4 rfl rfl)
theorem dX0_move_29 : decode cX0_move 29 = .ok (.ireturn, 1) := dk_172 (dk_at dksX0_move_1 5 rfl rfl)
theorem dX0_move_30 : decode cX0_move 30 = .ok (.astore 5, 2) := dk_58 5 (dk_at dksX0_move_1 6 rfl rfl)
theorem dX0_move_32 : decode cX0_move 32 = .ok (.iconst 5, 1) := dk_8 (dk_at dksX0_move_1 8 rfl rfl)
theorem dX0_move_33 : decode cX0_move 33 = .ok (.ireturn, 1) := dk_172 (dk_at dksX0_move_1 9 rfl rfl)
theorem dX0_move_34 : decode cX0_move 34 = .ok (.iconst 0, 1) := dk_3 (dk_at dksX0_move_1 10 rfl rfl)
theorem dX0_move_35 : decode cX0_move 35 = .ok (.ireturn, 1) := dk_172 (dk_at dksX0_move_1 11 rfl rfl)
abbrev cX0_heap : ByteArray := method_13_code
def yX0_heap : MethodName := ⟨RX0, "heap", "(LLibraryDesk;III[J)I"⟩
def dkwX0_heap_1 : List UInt8 := [6, 172, 58, 5, 7, 172, 3, 172]
abbrev dktX0_heap_1 : List UInt8 := dkwX0_heap_1 ++ []
def dkwX0_heap_0 : List UInt8 := [25, 4, 3, 42, 27, 28, 29, 182, 0, 59, 80, 167, 0, 19, 58, 5, 4, 172, 58, 5, 5, 172, 58, 5]
abbrev dktX0_heap_0 : List UInt8 := dkwX0_heap_0 ++ dktX0_heap_1
theorem dksX0_heap_0 : cX0_heap.data.toList.drop 0 = dktX0_heap_0 := by decide +kernel
theorem dksX0_heap_1 : cX0_heap.data.toList.drop 24 = dktX0_heap_1 := dk_seg dksX0_heap_0 24 rfl rfl
theorem dX0_heap_0 : decode cX0_heap 0 = .ok (.aload 4, 2) := dk_25 4 (dk_at dksX0_heap_0 0 rfl rfl)
theorem dX0_heap_2 : decode cX0_heap 2 = .ok (.iconst 0, 1) := dk_3 (dk_at dksX0_heap_0 2 rfl rfl)
theorem dX0_heap_3 : decode cX0_heap 3 = .ok (.aload_n 0, 1) := dk_42 (dk_at dksX0_heap_0 3 rfl rfl)
theorem dX0_heap_4 : decode cX0_heap 4 = .ok (.iload_n 1, 1) := dk_27 (dk_at dksX0_heap_0 4 rfl rfl)
theorem dX0_heap_5 : decode cX0_heap 5 = .ok (.iload_n 2, 1) := dk_28 (dk_at dksX0_heap_0 5 rfl rfl)
theorem dX0_heap_6 : decode cX0_heap 6 = .ok (.iload_n 3, 1) := dk_29 (dk_at dksX0_heap_0 6 rfl rfl)
theorem dX0_heap_7 : decode cX0_heap 7 = .ok (.invokevirtual 59, 3) := dk_182 0 59 (dk_at dksX0_heap_0 7 rfl rfl)
theorem dX0_heap_10 : decode cX0_heap 10 = .ok (.lastore, 1) := dk_80 (dk_at dksX0_heap_0 10 rfl rfl)
theorem dX0_heap_11 : decode cX0_heap 11 = .ok (.goto 19, 3) := dk_167 0 19 (dk_at dksX0_heap_0 11 rfl rfl)
theorem dX0_heap_14 : decode cX0_heap 14 = .ok (.astore 5, 2) := dk_58 5 (dk_at dksX0_heap_0 14 rfl rfl)
theorem dX0_heap_16 : decode cX0_heap 16 = .ok (.iconst 1, 1) := dk_4 (dk_at dksX0_heap_0 16 rfl rfl)
theorem dX0_heap_17 : decode cX0_heap 17 = .ok (.ireturn, 1) := dk_172 (dk_at dksX0_heap_0 17 rfl rfl)
theorem dX0_heap_18 : decode cX0_heap 18 = .ok (.astore 5, 2) := dk_58 5 (dk_at dksX0_heap_0 18 rfl rfl)
theorem dX0_heap_20 : decode cX0_heap 20 = .ok (.iconst 2, 1) := dk_5 (dk_at dksX0_heap_0 20 rfl rfl)
theorem dX0_heap_21 : decode cX0_heap 21 = .ok (.ireturn, 1) := dk_172 (dk_at dksX0_heap_0 21 rfl rfl)
theorem dX0_heap_22 : decode cX0_heap 22 = .ok (.astore 5, 2) := dk_58 5 (dk_at dksX0_heap_0 22 rfl rfl)
theorem dX0_heap_24 : decode cX0_heap 24 = .ok (.iconst 3, 1) := dk_6 (dk_at dksX0_heap_1 0 rfl rfl)
theorem dX0_heap_25 : decode cX0_heap 25 = .ok (.ireturn, 1) := dk_172 (dk_at dksX0_heap_1 1 rfl rfl)
theorem dX0_heap_26 : decode cX0_heap 26 = .ok (.astore 5, 2) := dk_58 5 (dk_at dksX0_heap_1 2 rfl rfl)
theorem dX0_heap_28 : decode cX0_heap 28 = .ok (.iconst 4, 1) := dk_7 (dk_at dksX0_heap_1 4 rfl rfl)
theorem dX0_heap_29 : decode cX0_heap 29 = .ok (.ireturn, 1) := dk_172 (dk_at dksX0_heap_1 5 rfl rfl)
theorem dX0_heap_30 : decode cX0_heap 30 = .ok (.iconst 0, 1) := dk_3 (dk_at dksX0_heap_1 6 rfl rfl)
theorem dX0_heap_31 : decode cX0_heap 31 = .ok (.ireturn, 1) := dk_172 (dk_at dksX0_heap_1 7 rfl rfl)
abbrev cX0_bits : ByteArray := method_14_code
def yX0_bits : MethodName := ⟨RX0, "bits", "(LLibraryDesk;IIII[J)I"⟩
def dkwX0_bits_1 : List UInt8 := [58, 6, 6, 172, 58, 6, 7, 172, 3, 172]
abbrev dktX0_bits_1 : List UInt8 := dkwX0_bits_1 ++ []
def dkwX0_bits_0 : List UInt8 := [25, 5, 3, 42, 27, 28, 29, 21, 4, 182, 0, 62, 80, 167, 0, 19, 58, 6, 4, 172, 58, 6, 5, 172]
abbrev dktX0_bits_0 : List UInt8 := dkwX0_bits_0 ++ dktX0_bits_1
theorem dksX0_bits_0 : cX0_bits.data.toList.drop 0 = dktX0_bits_0 := by decide +kernel
theorem dksX0_bits_1 : cX0_bits.data.toList.drop 24 = dktX0_bits_1 := dk_seg dksX0_bits_0 24 rfl rfl
theorem dX0_bits_0 : decode cX0_bits 0 = .ok (.aload 5, 2) := dk_25 5 (dk_at dksX0_bits_0 0 rfl rfl)
theorem dX0_bits_2 : decode cX0_bits 2 = .ok (.iconst 0, 1) := dk_3 (dk_at dksX0_bits_0 2 rfl rfl)
theorem dX0_bits_3 : decode cX0_bits 3 = .ok (.aload_n 0, 1) := dk_42 (dk_at dksX0_bits_0 3 rfl rfl)
theorem dX0_bits_4 : decode cX0_bits 4 = .ok (.iload_n 1, 1) := dk_27 (dk_at dksX0_bits_0 4 rfl rfl)
theorem dX0_bits_5 : decode cX0_bits 5 = .ok (.iload_n 2, 1) := dk_28 (dk_at dksX0_bits_0 5 rfl rfl)
theorem dX0_bits_6 : decode cX0_bits 6 = .ok (.iload_n 3, 1) := dk_29 (dk_at dksX0_bits_0 6 rfl rfl)
theorem dX0_bits_7 : decode cX0_bits 7 = .ok (.iload 4, 2) := dk_21 4 (dk_at dksX0_bits_0 7 rfl rfl)
theorem dX0_bits_9 : decode cX0_bits 9 = .ok (.invokevirtual 62, 3) := dk_182 0 62 (dk_at dksX0_bits_0 9 rfl rfl)
theorem dX0_bits_12 : decode cX0_bits 12 = .ok (.lastore, 1) := dk_80 (dk_at dksX0_bits_0 12 rfl rfl)
theorem dX0_bits_13 : decode cX0_bits 13 = .ok (.goto 19, 3) := dk_167 0 19 (dk_at dksX0_bits_0 13 rfl rfl)
theorem dX0_bits_16 : decode cX0_bits 16 = .ok (.astore 6, 2) := dk_58 6 (dk_at dksX0_bits_0 16 rfl rfl)
theorem dX0_bits_18 : decode cX0_bits 18 = .ok (.iconst 1, 1) := dk_4 (dk_at dksX0_bits_0 18 rfl rfl)
theorem dX0_bits_19 : decode cX0_bits 19 = .ok (.ireturn, 1) := dk_172 (dk_at dksX0_bits_0 19 rfl rfl)
theorem dX0_bits_20 : decode cX0_bits 20 = .ok (.astore 6, 2) := dk_58 6 (dk_at dksX0_bits_0 20 rfl rfl)
theorem dX0_bits_22 : decode cX0_bits 22 = .ok (.iconst 2, 1) := dk_5 (dk_at dksX0_bits_0 22 rfl rfl)
theorem dX0_bits_23 : decode cX0_bits 23 = .ok (.ireturn, 1) := dk_172 (dk_at dksX0_bits_0 23 rfl rfl)
theorem dX0_bits_24 : decode cX0_bits 24 = .ok (.astore 6, 2) := dk_58 6 (dk_at dksX0_bits_1 0 rfl rfl)
theorem dX0_bits_26 : decode cX0_bits 26 = .ok (.iconst 3, 1) := dk_6 (dk_at dksX0_bits_1 2 rfl rfl)
theorem dX0_bits_27 : decode cX0_bits 27 = .ok (.ireturn, 1) := dk_172 (dk_at dksX0_bits_1 3 rfl rfl)
theorem dX0_bits_28 : decode cX0_bits 28 = .ok (.astore 6, 2) := dk_58 6 (dk_at dksX0_bits_1 4 rfl rfl)
theorem dX0_bits_30 : decode cX0_bits 30 = .ok (.iconst 4, 1) := dk_7 (dk_at dksX0_bits_1 6 rfl rfl)
theorem dX0_bits_31 : decode cX0_bits 31 = .ok (.ireturn, 1) := dk_172 (dk_at dksX0_bits_1 7 rfl rfl)
theorem dX0_bits_32 : decode cX0_bits 32 = .ok (.iconst 0, 1) := dk_3 (dk_at dksX0_bits_1 8 rfl rfl)
theorem dX0_bits_33 : decode cX0_bits 33 = .ok (.ireturn, 1) := dk_172 (dk_at dksX0_bits_1 9 rfl rfl)
abbrev cX0_item : ByteArray := method_15_code
def yX0_item : MethodName := ⟨RX0, "item", "(LLibraryDesk;III[J)I"⟩
def dkwX0_item_1 : List UInt8 := [6, 172, 58, 5, 7, 172, 58, 5, 8, 172, 3, 172]
abbrev dktX0_item_1 : List UInt8 := dkwX0_item_1 ++ []
def dkwX0_item_0 : List UInt8 := [25, 4, 3, 42, 27, 28, 29, 182, 0, 65, 80, 167, 0, 23, 58, 5, 4, 172, 58, 5, 5, 172, 58, 5]
abbrev dktX0_item_0 : List UInt8 := dkwX0_item_0 ++ dktX0_item_1
theorem dksX0_item_0 : cX0_item.data.toList.drop 0 = dktX0_item_0 := by decide +kernel
theorem dksX0_item_1 : cX0_item.data.toList.drop 24 = dktX0_item_1 := dk_seg dksX0_item_0 24 rfl rfl
theorem dX0_item_0 : decode cX0_item 0 = .ok (.aload 4, 2) := dk_25 4 (dk_at dksX0_item_0 0 rfl rfl)
theorem dX0_item_2 : decode cX0_item 2 = .ok (.iconst 0, 1) := dk_3 (dk_at dksX0_item_0 2 rfl rfl)
theorem dX0_item_3 : decode cX0_item 3 = .ok (.aload_n 0, 1) := dk_42 (dk_at dksX0_item_0 3 rfl rfl)
theorem dX0_item_4 : decode cX0_item 4 = .ok (.iload_n 1, 1) := dk_27 (dk_at dksX0_item_0 4 rfl rfl)
theorem dX0_item_5 : decode cX0_item 5 = .ok (.iload_n 2, 1) := dk_28 (dk_at dksX0_item_0 5 rfl rfl)
theorem dX0_item_6 : decode cX0_item 6 = .ok (.iload_n 3, 1) := dk_29 (dk_at dksX0_item_0 6 rfl rfl)
theorem dX0_item_7 : decode cX0_item 7 = .ok (.invokevirtual 65, 3) := dk_182 0 65 (dk_at dksX0_item_0 7 rfl rfl)
theorem dX0_item_10 : decode cX0_item 10 = .ok (.lastore, 1) := dk_80 (dk_at dksX0_item_0 10 rfl rfl)
theorem dX0_item_11 : decode cX0_item 11 = .ok (.goto 23, 3) := dk_167 0 23 (dk_at dksX0_item_0 11 rfl rfl)
theorem dX0_item_14 : decode cX0_item 14 = .ok (.astore 5, 2) := dk_58 5 (dk_at dksX0_item_0 14 rfl rfl)
theorem dX0_item_16 : decode cX0_item 16 = .ok (.iconst 1, 1) := dk_4 (dk_at dksX0_item_0 16 rfl rfl)
theorem dX0_item_17 : decode cX0_item 17 = .ok (.ireturn, 1) := dk_172 (dk_at dksX0_item_0 17 rfl rfl)
theorem dX0_item_18 : decode cX0_item 18 = .ok (.astore 5, 2) := dk_58 5 (dk_at dksX0_item_0 18 rfl rfl)
theorem dX0_item_20 : decode cX0_item 20 = .ok (.iconst 2, 1) := dk_5 (dk_at dksX0_item_0 20 rfl rfl)
theorem dX0_item_21 : decode cX0_item 21 = .ok (.ireturn, 1) := dk_172 (dk_at dksX0_item_0 21 rfl rfl)
theorem dX0_item_22 : decode cX0_item 22 = .ok (.astore 5, 2) := dk_58 5 (dk_at dksX0_item_0 22 rfl rfl)
theorem dX0_item_24 : decode cX0_item 24 = .ok (.iconst 3, 1) := dk_6 (dk_at dksX0_item_1 0 rfl rfl)
theorem dX0_item_25 : decode cX0_item 25 = .ok (.ireturn, 1) := dk_172 (dk_at dksX0_item_1 1 rfl rfl)
theorem dX0_item_26 : decode cX0_item 26 = .ok (.astore 5, 2) := dk_58 5 (dk_at dksX0_item_1 2 rfl rfl)
theorem dX0_item_28 : decode cX0_item 28 = .ok (.iconst 4, 1) := dk_7 (dk_at dksX0_item_1 4 rfl rfl)
theorem dX0_item_29 : decode cX0_item 29 = .ok (.ireturn, 1) := dk_172 (dk_at dksX0_item_1 5 rfl rfl)
theorem dX0_item_30 : decode cX0_item 30 = .ok (.astore 5, 2) := dk_58 5 (dk_at dksX0_item_1 6 rfl rfl)
theorem dX0_item_32 : decode cX0_item 32 = .ok (.iconst 5, 1) := dk_8 (dk_at dksX0_item_1 8 rfl rfl)
theorem dX0_item_33 : decode cX0_item 33 = .ok (.ireturn, 1) := dk_172 (dk_at dksX0_item_1 9 rfl rfl)
theorem dX0_item_34 : decode cX0_item 34 = .ok (.iconst 0, 1) := dk_3 (dk_at dksX0_item_1 10 rfl rfl)
theorem dX0_item_35 : decode cX0_item 35 = .ok (.ireturn, 1) := dk_172 (dk_at dksX0_item_1 11 rfl rfl)
abbrev cX0_text : ByteArray := method_16_code
def yX0_text : MethodName := ⟨RX0, "text", "(LLibraryDesk;IIII[J)I"⟩
def dkwX0_text_1 : List UInt8 := [172, 58, 6, 6, 172, 58, 6, 7, 172, 58, 6, 8, 172, 58, 6, 16, 6, 172, 3, 172]
abbrev dktX0_text_1 : List UInt8 := dkwX0_text_1 ++ []
def dkwX0_text_0 : List UInt8 := [25, 5, 3, 42, 27, 28, 29, 21, 4, 182, 0, 68, 133, 80, 167, 0, 28, 58, 6, 4, 172, 58, 6, 5]
abbrev dktX0_text_0 : List UInt8 := dkwX0_text_0 ++ dktX0_text_1
theorem dksX0_text_0 : cX0_text.data.toList.drop 0 = dktX0_text_0 := by decide +kernel
theorem dksX0_text_1 : cX0_text.data.toList.drop 24 = dktX0_text_1 := dk_seg dksX0_text_0 24 rfl rfl
theorem dX0_text_0 : decode cX0_text 0 = .ok (.aload 5, 2) := dk_25 5 (dk_at dksX0_text_0 0 rfl rfl)
theorem dX0_text_2 : decode cX0_text 2 = .ok (.iconst 0, 1) := dk_3 (dk_at dksX0_text_0 2 rfl rfl)
theorem dX0_text_3 : decode cX0_text 3 = .ok (.aload_n 0, 1) := dk_42 (dk_at dksX0_text_0 3 rfl rfl)
theorem dX0_text_4 : decode cX0_text 4 = .ok (.iload_n 1, 1) := dk_27 (dk_at dksX0_text_0 4 rfl rfl)
theorem dX0_text_5 : decode cX0_text 5 = .ok (.iload_n 2, 1) := dk_28 (dk_at dksX0_text_0 5 rfl rfl)
theorem dX0_text_6 : decode cX0_text 6 = .ok (.iload_n 3, 1) := dk_29 (dk_at dksX0_text_0 6 rfl rfl)
theorem dX0_text_7 : decode cX0_text 7 = .ok (.iload 4, 2) := dk_21 4 (dk_at dksX0_text_0 7 rfl rfl)
theorem dX0_text_9 : decode cX0_text 9 = .ok (.invokevirtual 68, 3) := dk_182 0 68 (dk_at dksX0_text_0 9 rfl rfl)
theorem dX0_text_12 : decode cX0_text 12 = .ok (.i2l, 1) := dk_133 (dk_at dksX0_text_0 12 rfl rfl)
theorem dX0_text_13 : decode cX0_text 13 = .ok (.lastore, 1) := dk_80 (dk_at dksX0_text_0 13 rfl rfl)
theorem dX0_text_14 : decode cX0_text 14 = .ok (.goto 28, 3) := dk_167 0 28 (dk_at dksX0_text_0 14 rfl rfl)
theorem dX0_text_17 : decode cX0_text 17 = .ok (.astore 6, 2) := dk_58 6 (dk_at dksX0_text_0 17 rfl rfl)
theorem dX0_text_19 : decode cX0_text 19 = .ok (.iconst 1, 1) := dk_4 (dk_at dksX0_text_0 19 rfl rfl)
theorem dX0_text_20 : decode cX0_text 20 = .ok (.ireturn, 1) := dk_172 (dk_at dksX0_text_0 20 rfl rfl)
theorem dX0_text_21 : decode cX0_text 21 = .ok (.astore 6, 2) := dk_58 6 (dk_at dksX0_text_0 21 rfl rfl)
theorem dX0_text_23 : decode cX0_text 23 = .ok (.iconst 2, 1) := dk_5 (dk_at dksX0_text_0 23 rfl rfl)
theorem dX0_text_24 : decode cX0_text 24 = .ok (.ireturn, 1) := dk_172 (dk_at dksX0_text_1 0 rfl rfl)
theorem dX0_text_25 : decode cX0_text 25 = .ok (.astore 6, 2) := dk_58 6 (dk_at dksX0_text_1 1 rfl rfl)
theorem dX0_text_27 : decode cX0_text 27 = .ok (.iconst 3, 1) := dk_6 (dk_at dksX0_text_1 3 rfl rfl)
theorem dX0_text_28 : decode cX0_text 28 = .ok (.ireturn, 1) := dk_172 (dk_at dksX0_text_1 4 rfl rfl)
theorem dX0_text_29 : decode cX0_text 29 = .ok (.astore 6, 2) := dk_58 6 (dk_at dksX0_text_1 5 rfl rfl)
theorem dX0_text_31 : decode cX0_text 31 = .ok (.iconst 4, 1) := dk_7 (dk_at dksX0_text_1 7 rfl rfl)
theorem dX0_text_32 : decode cX0_text 32 = .ok (.ireturn, 1) := dk_172 (dk_at dksX0_text_1 8 rfl rfl)
theorem dX0_text_33 : decode cX0_text 33 = .ok (.astore 6, 2) := dk_58 6 (dk_at dksX0_text_1 9 rfl rfl)
theorem dX0_text_35 : decode cX0_text 35 = .ok (.iconst 5, 1) := dk_8 (dk_at dksX0_text_1 11 rfl rfl)
theorem dX0_text_36 : decode cX0_text 36 = .ok (.ireturn, 1) := dk_172 (dk_at dksX0_text_1 12 rfl rfl)
theorem dX0_text_37 : decode cX0_text 37 = .ok (.astore 6, 2) := dk_58 6 (dk_at dksX0_text_1 13 rfl rfl)
theorem dX0_text_39 : decode cX0_text 39 = .ok (.bipush 6, 2) := dk_16 6 (dk_at dksX0_text_1 15 rfl rfl)
theorem dX0_text_41 : decode cX0_text 41 = .ok (.ireturn, 1) := dk_172 (dk_at dksX0_text_1 17 rfl rfl)
theorem dX0_text_42 : decode cX0_text 42 = .ok (.iconst 0, 1) := dk_3 (dk_at dksX0_text_1 18 rfl rfl)
theorem dX0_text_43 : decode cX0_text 43 = .ok (.ireturn, 1) := dk_172 (dk_at dksX0_text_1 19 rfl rfl)
abbrev cX0_pattern : ByteArray := method_17_code
def yX0_pattern : MethodName := ⟨RX0, "pattern", "(LLibraryDesk;[J)I"⟩
def dkwX0_pattern_0 : List UInt8 := [43, 3, 42, 182, 0, 71, 133, 80, 167, 0, 12, 77, 4, 172, 77, 5, 172, 77, 6, 172, 3, 172]
abbrev dktX0_pattern_0 : List UInt8 := dkwX0_pattern_0 ++ []
theorem dksX0_pattern_0 : cX0_pattern.data.toList.drop 0 = dktX0_pattern_0 := by decide +kernel
theorem dX0_pattern_0 : decode cX0_pattern 0 = .ok (.aload_n 1, 1) := dk_43 (dk_at dksX0_pattern_0 0 rfl rfl)
theorem dX0_pattern_1 : decode cX0_pattern 1 = .ok (.iconst 0, 1) := dk_3 (dk_at dksX0_pattern_0 1 rfl rfl)
theorem dX0_pattern_2 : decode cX0_pattern 2 = .ok (.aload_n 0, 1) := dk_42 (dk_at dksX0_pattern_0 2 rfl rfl)
theorem dX0_pattern_3 : decode cX0_pattern 3 = .ok (.invokevirtual 71, 3) := dk_182 0 71 (dk_at dksX0_pattern_0 3 rfl rfl)
theorem dX0_pattern_6 : decode cX0_pattern 6 = .ok (.i2l, 1) := dk_133 (dk_at dksX0_pattern_0 6 rfl rfl)
theorem dX0_pattern_7 : decode cX0_pattern 7 = .ok (.lastore, 1) := dk_80 (dk_at dksX0_pattern_0 7 rfl rfl)
theorem dX0_pattern_8 : decode cX0_pattern 8 = .ok (.goto 12, 3) := dk_167 0 12 (dk_at dksX0_pattern_0 8 rfl rfl)
theorem dX0_pattern_11 : decode cX0_pattern 11 = .ok (.astore_n 2, 1) := dk_77 (dk_at dksX0_pattern_0 11 rfl rfl)
theorem dX0_pattern_12 : decode cX0_pattern 12 = .ok (.iconst 1, 1) := dk_4 (dk_at dksX0_pattern_0 12 rfl rfl)
theorem dX0_pattern_13 : decode cX0_pattern 13 = .ok (.ireturn, 1) := dk_172 (dk_at dksX0_pattern_0 13 rfl rfl)
theorem dX0_pattern_14 : decode cX0_pattern 14 = .ok (.astore_n 2, 1) := dk_77 (dk_at dksX0_pattern_0 14 rfl rfl)
theorem dX0_pattern_15 : decode cX0_pattern 15 = .ok (.iconst 2, 1) := dk_5 (dk_at dksX0_pattern_0 15 rfl rfl)
theorem dX0_pattern_16 : decode cX0_pattern 16 = .ok (.ireturn, 1) := dk_172 (dk_at dksX0_pattern_0 16 rfl rfl)
theorem dX0_pattern_17 : decode cX0_pattern 17 = .ok (.astore_n 2, 1) := dk_77 (dk_at dksX0_pattern_0 17 rfl rfl)
theorem dX0_pattern_18 : decode cX0_pattern 18 = .ok (.iconst 3, 1) := dk_6 (dk_at dksX0_pattern_0 18 rfl rfl)
theorem dX0_pattern_19 : decode cX0_pattern 19 = .ok (.ireturn, 1) := dk_172 (dk_at dksX0_pattern_0 19 rfl rfl)
theorem dX0_pattern_20 : decode cX0_pattern 20 = .ok (.iconst 0, 1) := dk_3 (dk_at dksX0_pattern_0 20 rfl rfl)
theorem dX0_pattern_21 : decode cX0_pattern 21 = .ok (.ireturn, 1) := dk_172 (dk_at dksX0_pattern_0 21 rfl rfl)
abbrev cX0_match : ByteArray := method_18_code
def yX0_match : MethodName := ⟨RX0, "match", "(LLibraryDesk;IIII[J)I"⟩
def dkwX0_match_1 : List UInt8 := [172, 58, 6, 6, 172, 58, 6, 7, 172, 3, 172]
abbrev dktX0_match_1 : List UInt8 := dkwX0_match_1 ++ []
def dkwX0_match_0 : List UInt8 := [25, 5, 3, 42, 27, 28, 29, 21, 4, 182, 0, 75, 133, 80, 167, 0, 19, 58, 6, 4, 172, 58, 6, 5]
abbrev dktX0_match_0 : List UInt8 := dkwX0_match_0 ++ dktX0_match_1
theorem dksX0_match_0 : cX0_match.data.toList.drop 0 = dktX0_match_0 := by decide +kernel
theorem dksX0_match_1 : cX0_match.data.toList.drop 24 = dktX0_match_1 := dk_seg dksX0_match_0 24 rfl rfl
theorem dX0_match_0 : decode cX0_match 0 = .ok (.aload 5, 2) := dk_25 5 (dk_at dksX0_match_0 0 rfl rfl)
theorem dX0_match_2 : decode cX0_match 2 = .ok (.iconst 0, 1) := dk_3 (dk_at dksX0_match_0 2 rfl rfl)
theorem dX0_match_3 : decode cX0_match 3 = .ok (.aload_n 0, 1) := dk_42 (dk_at dksX0_match_0 3 rfl rfl)
theorem dX0_match_4 : decode cX0_match 4 = .ok (.iload_n 1, 1) := dk_27 (dk_at dksX0_match_0 4 rfl rfl)
theorem dX0_match_5 : decode cX0_match 5 = .ok (.iload_n 2, 1) := dk_28 (dk_at dksX0_match_0 5 rfl rfl)
theorem dX0_match_6 : decode cX0_match 6 = .ok (.iload_n 3, 1) := dk_29 (dk_at dksX0_match_0 6 rfl rfl)
theorem dX0_match_7 : decode cX0_match 7 = .ok (.iload 4, 2) := dk_21 4 (dk_at dksX0_match_0 7 rfl rfl)
theorem dX0_match_9 : decode cX0_match 9 = .ok (.invokevirtual 75, 3) := dk_182 0 75 (dk_at dksX0_match_0 9 rfl rfl)
theorem dX0_match_12 : decode cX0_match 12 = .ok (.i2l, 1) := dk_133 (dk_at dksX0_match_0 12 rfl rfl)
theorem dX0_match_13 : decode cX0_match 13 = .ok (.lastore, 1) := dk_80 (dk_at dksX0_match_0 13 rfl rfl)
theorem dX0_match_14 : decode cX0_match 14 = .ok (.goto 19, 3) := dk_167 0 19 (dk_at dksX0_match_0 14 rfl rfl)
theorem dX0_match_17 : decode cX0_match 17 = .ok (.astore 6, 2) := dk_58 6 (dk_at dksX0_match_0 17 rfl rfl)
theorem dX0_match_19 : decode cX0_match 19 = .ok (.iconst 1, 1) := dk_4 (dk_at dksX0_match_0 19 rfl rfl)
theorem dX0_match_20 : decode cX0_match 20 = .ok (.ireturn, 1) := dk_172 (dk_at dksX0_match_0 20 rfl rfl)
theorem dX0_match_21 : decode cX0_match 21 = .ok (.astore 6, 2) := dk_58 6 (dk_at dksX0_match_0 21 rfl rfl)
theorem dX0_match_23 : decode cX0_match 23 = .ok (.iconst 2, 1) := dk_5 (dk_at dksX0_match_0 23 rfl rfl)
theorem dX0_match_24 : decode cX0_match 24 = .ok (.ireturn, 1) := dk_172 (dk_at dksX0_match_1 0 rfl rfl)
theorem dX0_match_25 : decode cX0_match 25 = .ok (.astore 6, 2) := dk_58 6 (dk_at dksX0_match_1 1 rfl rfl)
theorem dX0_match_27 : decode cX0_match 27 = .ok (.iconst 3, 1) := dk_6 (dk_at dksX0_match_1 3 rfl rfl)
theorem dX0_match_28 : decode cX0_match 28 = .ok (.ireturn, 1) := dk_172 (dk_at dksX0_match_1 4 rfl rfl)
theorem dX0_match_29 : decode cX0_match 29 = .ok (.astore 6, 2) := dk_58 6 (dk_at dksX0_match_1 5 rfl rfl)
theorem dX0_match_31 : decode cX0_match 31 = .ok (.iconst 4, 1) := dk_7 (dk_at dksX0_match_1 7 rfl rfl)
theorem dX0_match_32 : decode cX0_match 32 = .ok (.ireturn, 1) := dk_172 (dk_at dksX0_match_1 8 rfl rfl)
theorem dX0_match_33 : decode cX0_match 33 = .ok (.iconst 0, 1) := dk_3 (dk_at dksX0_match_1 9 rfl rfl)
theorem dX0_match_34 : decode cX0_match 34 = .ok (.ireturn, 1) := dk_172 (dk_at dksX0_match_1 10 rfl rfl)
abbrev cX0_group : ByteArray := method_19_code
def yX0_group : MethodName := ⟨RX0, "group", "(LLibraryDesk;II[J)I"⟩
def dkwX0_group_0 : List UInt8 := [45, 3, 42, 27, 28, 182, 0, 78, 133, 80, 167, 0, 7, 58, 4, 4, 172, 3, 172]
abbrev dktX0_group_0 : List UInt8 := dkwX0_group_0 ++ []
theorem dksX0_group_0 : cX0_group.data.toList.drop 0 = dktX0_group_0 := by decide +kernel
theorem dX0_group_0 : decode cX0_group 0 = .ok (.aload_n 3, 1) := dk_45 (dk_at dksX0_group_0 0 rfl rfl)
theorem dX0_group_1 : decode cX0_group 1 = .ok (.iconst 0, 1) := dk_3 (dk_at dksX0_group_0 1 rfl rfl)
theorem dX0_group_2 : decode cX0_group 2 = .ok (.aload_n 0, 1) := dk_42 (dk_at dksX0_group_0 2 rfl rfl)
theorem dX0_group_3 : decode cX0_group 3 = .ok (.iload_n 1, 1) := dk_27 (dk_at dksX0_group_0 3 rfl rfl)
theorem dX0_group_4 : decode cX0_group 4 = .ok (.iload_n 2, 1) := dk_28 (dk_at dksX0_group_0 4 rfl rfl)
theorem dX0_group_5 : decode cX0_group 5 = .ok (.invokevirtual 78, 3) := dk_182 0 78 (dk_at dksX0_group_0 5 rfl rfl)
theorem dX0_group_8 : decode cX0_group 8 = .ok (.i2l, 1) := dk_133 (dk_at dksX0_group_0 8 rfl rfl)
theorem dX0_group_9 : decode cX0_group 9 = .ok (.lastore, 1) := dk_80 (dk_at dksX0_group_0 9 rfl rfl)
theorem dX0_group_10 : decode cX0_group 10 = .ok (.goto 7, 3) := dk_167 0 7 (dk_at dksX0_group_0 10 rfl rfl)
theorem dX0_group_13 : decode cX0_group 13 = .ok (.astore 4, 2) := dk_58 4 (dk_at dksX0_group_0 13 rfl rfl)
theorem dX0_group_15 : decode cX0_group 15 = .ok (.iconst 1, 1) := dk_4 (dk_at dksX0_group_0 15 rfl rfl)
theorem dX0_group_16 : decode cX0_group 16 = .ok (.ireturn, 1) := dk_172 (dk_at dksX0_group_0 16 rfl rfl)
theorem dX0_group_17 : decode cX0_group 17 = .ok (.iconst 0, 1) := dk_3 (dk_at dksX0_group_0 17 rfl rfl)
theorem dX0_group_18 : decode cX0_group 18 = .ok (.ireturn, 1) := dk_172 (dk_at dksX0_group_0 18 rfl rfl)
abbrev cX0_replace : ByteArray := method_20_code
def yX0_replace : MethodName := ⟨RX0, "replace", "(LLibraryDesk;II[J)I"⟩
def dkwX0_replace_1 : List UInt8 := [172, 58, 4, 7, 172, 58, 4, 8, 172, 3, 172]
abbrev dktX0_replace_1 : List UInt8 := dkwX0_replace_1 ++ []
def dkwX0_replace_0 : List UInt8 := [45, 3, 42, 27, 28, 182, 0, 82, 133, 80, 167, 0, 23, 58, 4, 4, 172, 58, 4, 5, 172, 58, 4, 6]
abbrev dktX0_replace_0 : List UInt8 := dkwX0_replace_0 ++ dktX0_replace_1
theorem dksX0_replace_0 : cX0_replace.data.toList.drop 0 = dktX0_replace_0 := by decide +kernel
theorem dksX0_replace_1 : cX0_replace.data.toList.drop 24 = dktX0_replace_1 := dk_seg dksX0_replace_0 24 rfl rfl
theorem dX0_replace_0 : decode cX0_replace 0 = .ok (.aload_n 3, 1) := dk_45 (dk_at dksX0_replace_0 0 rfl rfl)
theorem dX0_replace_1 : decode cX0_replace 1 = .ok (.iconst 0, 1) := dk_3 (dk_at dksX0_replace_0 1 rfl rfl)
theorem dX0_replace_2 : decode cX0_replace 2 = .ok (.aload_n 0, 1) := dk_42 (dk_at dksX0_replace_0 2 rfl rfl)
theorem dX0_replace_3 : decode cX0_replace 3 = .ok (.iload_n 1, 1) := dk_27 (dk_at dksX0_replace_0 3 rfl rfl)
theorem dX0_replace_4 : decode cX0_replace 4 = .ok (.iload_n 2, 1) := dk_28 (dk_at dksX0_replace_0 4 rfl rfl)
theorem dX0_replace_5 : decode cX0_replace 5 = .ok (.invokevirtual 82, 3) := dk_182 0 82 (dk_at dksX0_replace_0 5 rfl rfl)
theorem dX0_replace_8 : decode cX0_replace 8 = .ok (.i2l, 1) := dk_133 (dk_at dksX0_replace_0 8 rfl rfl)
theorem dX0_replace_9 : decode cX0_replace 9 = .ok (.lastore, 1) := dk_80 (dk_at dksX0_replace_0 9 rfl rfl)
theorem dX0_replace_10 : decode cX0_replace 10 = .ok (.goto 23, 3) := dk_167 0 23 (dk_at dksX0_replace_0 10 rfl rfl)
theorem dX0_replace_13 : decode cX0_replace 13 = .ok (.astore 4, 2) := dk_58 4 (dk_at dksX0_replace_0 13 rfl rfl)
theorem dX0_replace_15 : decode cX0_replace 15 = .ok (.iconst 1, 1) := dk_4 (dk_at dksX0_replace_0 15 rfl rfl)
theorem dX0_replace_16 : decode cX0_replace 16 = .ok (.ireturn, 1) := dk_172 (dk_at dksX0_replace_0 16 rfl rfl)
theorem dX0_replace_17 : decode cX0_replace 17 = .ok (.astore 4, 2) := dk_58 4 (dk_at dksX0_replace_0 17 rfl rfl)
theorem dX0_replace_19 : decode cX0_replace 19 = .ok (.iconst 2, 1) := dk_5 (dk_at dksX0_replace_0 19 rfl rfl)
theorem dX0_replace_20 : decode cX0_replace 20 = .ok (.ireturn, 1) := dk_172 (dk_at dksX0_replace_0 20 rfl rfl)
theorem dX0_replace_21 : decode cX0_replace 21 = .ok (.astore 4, 2) := dk_58 4 (dk_at dksX0_replace_0 21 rfl rfl)
theorem dX0_replace_23 : decode cX0_replace 23 = .ok (.iconst 3, 1) := dk_6 (dk_at dksX0_replace_0 23 rfl rfl)
theorem dX0_replace_24 : decode cX0_replace 24 = .ok (.ireturn, 1) := dk_172 (dk_at dksX0_replace_1 0 rfl rfl)
theorem dX0_replace_25 : decode cX0_replace 25 = .ok (.astore 4, 2) := dk_58 4 (dk_at dksX0_replace_1 1 rfl rfl)
theorem dX0_replace_27 : decode cX0_replace 27 = .ok (.iconst 4, 1) := dk_7 (dk_at dksX0_replace_1 3 rfl rfl)
theorem dX0_replace_28 : decode cX0_replace 28 = .ok (.ireturn, 1) := dk_172 (dk_at dksX0_replace_1 4 rfl rfl)
theorem dX0_replace_29 : decode cX0_replace 29 = .ok (.astore 4, 2) := dk_58 4 (dk_at dksX0_replace_1 5 rfl rfl)
theorem dX0_replace_31 : decode cX0_replace 31 = .ok (.iconst 5, 1) := dk_8 (dk_at dksX0_replace_1 7 rfl rfl)
theorem dX0_replace_32 : decode cX0_replace 32 = .ok (.ireturn, 1) := dk_172 (dk_at dksX0_replace_1 8 rfl rfl)
theorem dX0_replace_33 : decode cX0_replace 33 = .ok (.iconst 0, 1) := dk_3 (dk_at dksX0_replace_1 9 rfl rfl)
theorem dX0_replace_34 : decode cX0_replace 34 = .ok (.ireturn, 1) := dk_172 (dk_at dksX0_replace_1 10 rfl rfl)
abbrev cX0_form : ByteArray := method_21_code
def yX0_form : MethodName := ⟨RX0, "form", "(LLibraryDesk;I[J)I"⟩
def dkwX0_form_1 : List UInt8 := [78, 8, 172, 3, 172]
abbrev dktX0_form_1 : List UInt8 := dkwX0_form_1 ++ []
def dkwX0_form_0 : List UInt8 := [44, 3, 42, 27, 182, 0, 85, 133, 80, 167, 0, 18, 78, 4, 172, 78, 5, 172, 78, 6, 172, 78, 7, 172]
abbrev dktX0_form_0 : List UInt8 := dkwX0_form_0 ++ dktX0_form_1
theorem dksX0_form_0 : cX0_form.data.toList.drop 0 = dktX0_form_0 := by decide +kernel
theorem dksX0_form_1 : cX0_form.data.toList.drop 24 = dktX0_form_1 := dk_seg dksX0_form_0 24 rfl rfl
theorem dX0_form_0 : decode cX0_form 0 = .ok (.aload_n 2, 1) := dk_44 (dk_at dksX0_form_0 0 rfl rfl)
theorem dX0_form_1 : decode cX0_form 1 = .ok (.iconst 0, 1) := dk_3 (dk_at dksX0_form_0 1 rfl rfl)
theorem dX0_form_2 : decode cX0_form 2 = .ok (.aload_n 0, 1) := dk_42 (dk_at dksX0_form_0 2 rfl rfl)
theorem dX0_form_3 : decode cX0_form 3 = .ok (.iload_n 1, 1) := dk_27 (dk_at dksX0_form_0 3 rfl rfl)
theorem dX0_form_4 : decode cX0_form 4 = .ok (.invokevirtual 85, 3) := dk_182 0 85 (dk_at dksX0_form_0 4 rfl rfl)
theorem dX0_form_7 : decode cX0_form 7 = .ok (.i2l, 1) := dk_133 (dk_at dksX0_form_0 7 rfl rfl)
theorem dX0_form_8 : decode cX0_form 8 = .ok (.lastore, 1) := dk_80 (dk_at dksX0_form_0 8 rfl rfl)
theorem dX0_form_9 : decode cX0_form 9 = .ok (.goto 18, 3) := dk_167 0 18 (dk_at dksX0_form_0 9 rfl rfl)
theorem dX0_form_12 : decode cX0_form 12 = .ok (.astore_n 3, 1) := dk_78 (dk_at dksX0_form_0 12 rfl rfl)
theorem dX0_form_13 : decode cX0_form 13 = .ok (.iconst 1, 1) := dk_4 (dk_at dksX0_form_0 13 rfl rfl)
theorem dX0_form_14 : decode cX0_form 14 = .ok (.ireturn, 1) := dk_172 (dk_at dksX0_form_0 14 rfl rfl)
theorem dX0_form_15 : decode cX0_form 15 = .ok (.astore_n 3, 1) := dk_78 (dk_at dksX0_form_0 15 rfl rfl)
theorem dX0_form_16 : decode cX0_form 16 = .ok (.iconst 2, 1) := dk_5 (dk_at dksX0_form_0 16 rfl rfl)
theorem dX0_form_17 : decode cX0_form 17 = .ok (.ireturn, 1) := dk_172 (dk_at dksX0_form_0 17 rfl rfl)
theorem dX0_form_18 : decode cX0_form 18 = .ok (.astore_n 3, 1) := dk_78 (dk_at dksX0_form_0 18 rfl rfl)
theorem dX0_form_19 : decode cX0_form 19 = .ok (.iconst 3, 1) := dk_6 (dk_at dksX0_form_0 19 rfl rfl)
theorem dX0_form_20 : decode cX0_form 20 = .ok (.ireturn, 1) := dk_172 (dk_at dksX0_form_0 20 rfl rfl)
theorem dX0_form_21 : decode cX0_form 21 = .ok (.astore_n 3, 1) := dk_78 (dk_at dksX0_form_0 21 rfl rfl)
theorem dX0_form_22 : decode cX0_form 22 = .ok (.iconst 4, 1) := dk_7 (dk_at dksX0_form_0 22 rfl rfl)
theorem dX0_form_23 : decode cX0_form 23 = .ok (.ireturn, 1) := dk_172 (dk_at dksX0_form_0 23 rfl rfl)
theorem dX0_form_24 : decode cX0_form 24 = .ok (.astore_n 3, 1) := dk_78 (dk_at dksX0_form_1 0 rfl rfl)
theorem dX0_form_25 : decode cX0_form 25 = .ok (.iconst 5, 1) := dk_8 (dk_at dksX0_form_1 1 rfl rfl)
theorem dX0_form_26 : decode cX0_form 26 = .ok (.ireturn, 1) := dk_172 (dk_at dksX0_form_1 2 rfl rfl)
theorem dX0_form_27 : decode cX0_form 27 = .ok (.iconst 0, 1) := dk_3 (dk_at dksX0_form_1 3 rfl rfl)
theorem dX0_form_28 : decode cX0_form 28 = .ok (.ireturn, 1) := dk_172 (dk_at dksX0_form_1 4 rfl rfl)
abbrev cX0_set : ByteArray := method_22_code
def yX0_set : MethodName := ⟨RX0, "set", "(LLibraryDesk;IJ[J)I"⟩
def dkwX0_set_0 : List UInt8 := [25, 4, 3, 42, 27, 32, 182, 0, 88, 133, 80, 167, 0, 11, 58, 5, 4, 172, 58, 5, 5, 172, 3, 172]
abbrev dktX0_set_0 : List UInt8 := dkwX0_set_0 ++ []
theorem dksX0_set_0 : cX0_set.data.toList.drop 0 = dktX0_set_0 := by decide +kernel
theorem dX0_set_0 : decode cX0_set 0 = .ok (.aload 4, 2) := dk_25 4 (dk_at dksX0_set_0 0 rfl rfl)
theorem dX0_set_2 : decode cX0_set 2 = .ok (.iconst 0, 1) := dk_3 (dk_at dksX0_set_0 2 rfl rfl)
theorem dX0_set_3 : decode cX0_set 3 = .ok (.aload_n 0, 1) := dk_42 (dk_at dksX0_set_0 3 rfl rfl)
theorem dX0_set_4 : decode cX0_set 4 = .ok (.iload_n 1, 1) := dk_27 (dk_at dksX0_set_0 4 rfl rfl)
theorem dX0_set_5 : decode cX0_set 5 = .ok (.lload_n 2, 1) := dk_32 (dk_at dksX0_set_0 5 rfl rfl)
theorem dX0_set_6 : decode cX0_set 6 = .ok (.invokevirtual 88, 3) := dk_182 0 88 (dk_at dksX0_set_0 6 rfl rfl)
theorem dX0_set_9 : decode cX0_set 9 = .ok (.i2l, 1) := dk_133 (dk_at dksX0_set_0 9 rfl rfl)
theorem dX0_set_10 : decode cX0_set 10 = .ok (.lastore, 1) := dk_80 (dk_at dksX0_set_0 10 rfl rfl)
theorem dX0_set_11 : decode cX0_set 11 = .ok (.goto 11, 3) := dk_167 0 11 (dk_at dksX0_set_0 11 rfl rfl)
theorem dX0_set_14 : decode cX0_set 14 = .ok (.astore 5, 2) := dk_58 5 (dk_at dksX0_set_0 14 rfl rfl)
theorem dX0_set_16 : decode cX0_set 16 = .ok (.iconst 1, 1) := dk_4 (dk_at dksX0_set_0 16 rfl rfl)
theorem dX0_set_17 : decode cX0_set 17 = .ok (.ireturn, 1) := dk_172 (dk_at dksX0_set_0 17 rfl rfl)
theorem dX0_set_18 : decode cX0_set 18 = .ok (.astore 5, 2) := dk_58 5 (dk_at dksX0_set_0 18 rfl rfl)
theorem dX0_set_20 : decode cX0_set 20 = .ok (.iconst 2, 1) := dk_5 (dk_at dksX0_set_0 20 rfl rfl)
theorem dX0_set_21 : decode cX0_set 21 = .ok (.ireturn, 1) := dk_172 (dk_at dksX0_set_0 21 rfl rfl)
theorem dX0_set_22 : decode cX0_set 22 = .ok (.iconst 0, 1) := dk_3 (dk_at dksX0_set_0 22 rfl rfl)
theorem dX0_set_23 : decode cX0_set 23 = .ok (.ireturn, 1) := dk_172 (dk_at dksX0_set_0 23 rfl rfl)
abbrev cX0_whole : ByteArray := method_23_code
def yX0_whole : MethodName := ⟨RX0, "whole", "(LLibraryDesk;IIII[J)I"⟩
def dkwX0_whole_1 : List UInt8 := [172, 58, 6, 6, 172, 58, 6, 7, 172, 3, 172]
abbrev dktX0_whole_1 : List UInt8 := dkwX0_whole_1 ++ []
def dkwX0_whole_0 : List UInt8 := [25, 5, 3, 42, 27, 28, 29, 21, 4, 182, 0, 92, 133, 80, 167, 0, 19, 58, 6, 4, 172, 58, 6, 5]
abbrev dktX0_whole_0 : List UInt8 := dkwX0_whole_0 ++ dktX0_whole_1
theorem dksX0_whole_0 : cX0_whole.data.toList.drop 0 = dktX0_whole_0 := by decide +kernel
theorem dksX0_whole_1 : cX0_whole.data.toList.drop 24 = dktX0_whole_1 := dk_seg dksX0_whole_0 24 rfl rfl
theorem dX0_whole_0 : decode cX0_whole 0 = .ok (.aload 5, 2) := dk_25 5 (dk_at dksX0_whole_0 0 rfl rfl)
theorem dX0_whole_2 : decode cX0_whole 2 = .ok (.iconst 0, 1) := dk_3 (dk_at dksX0_whole_0 2 rfl rfl)
theorem dX0_whole_3 : decode cX0_whole 3 = .ok (.aload_n 0, 1) := dk_42 (dk_at dksX0_whole_0 3 rfl rfl)
theorem dX0_whole_4 : decode cX0_whole 4 = .ok (.iload_n 1, 1) := dk_27 (dk_at dksX0_whole_0 4 rfl rfl)
theorem dX0_whole_5 : decode cX0_whole 5 = .ok (.iload_n 2, 1) := dk_28 (dk_at dksX0_whole_0 5 rfl rfl)
theorem dX0_whole_6 : decode cX0_whole 6 = .ok (.iload_n 3, 1) := dk_29 (dk_at dksX0_whole_0 6 rfl rfl)
theorem dX0_whole_7 : decode cX0_whole 7 = .ok (.iload 4, 2) := dk_21 4 (dk_at dksX0_whole_0 7 rfl rfl)
theorem dX0_whole_9 : decode cX0_whole 9 = .ok (.invokevirtual 92, 3) := dk_182 0 92 (dk_at dksX0_whole_0 9 rfl rfl)
theorem dX0_whole_12 : decode cX0_whole 12 = .ok (.i2l, 1) := dk_133 (dk_at dksX0_whole_0 12 rfl rfl)
theorem dX0_whole_13 : decode cX0_whole 13 = .ok (.lastore, 1) := dk_80 (dk_at dksX0_whole_0 13 rfl rfl)
theorem dX0_whole_14 : decode cX0_whole 14 = .ok (.goto 19, 3) := dk_167 0 19 (dk_at dksX0_whole_0 14 rfl rfl)
theorem dX0_whole_17 : decode cX0_whole 17 = .ok (.astore 6, 2) := dk_58 6 (dk_at dksX0_whole_0 17 rfl rfl)
theorem dX0_whole_19 : decode cX0_whole 19 = .ok (.iconst 1, 1) := dk_4 (dk_at dksX0_whole_0 19 rfl rfl)
theorem dX0_whole_20 : decode cX0_whole 20 = .ok (.ireturn, 1) := dk_172 (dk_at dksX0_whole_0 20 rfl rfl)
theorem dX0_whole_21 : decode cX0_whole 21 = .ok (.astore 6, 2) := dk_58 6 (dk_at dksX0_whole_0 21 rfl rfl)
theorem dX0_whole_23 : decode cX0_whole 23 = .ok (.iconst 2, 1) := dk_5 (dk_at dksX0_whole_0 23 rfl rfl)
theorem dX0_whole_24 : decode cX0_whole 24 = .ok (.ireturn, 1) := dk_172 (dk_at dksX0_whole_1 0 rfl rfl)
theorem dX0_whole_25 : decode cX0_whole 25 = .ok (.astore 6, 2) := dk_58 6 (dk_at dksX0_whole_1 1 rfl rfl)
theorem dX0_whole_27 : decode cX0_whole 27 = .ok (.iconst 3, 1) := dk_6 (dk_at dksX0_whole_1 3 rfl rfl)
theorem dX0_whole_28 : decode cX0_whole 28 = .ok (.ireturn, 1) := dk_172 (dk_at dksX0_whole_1 4 rfl rfl)
theorem dX0_whole_29 : decode cX0_whole 29 = .ok (.astore 6, 2) := dk_58 6 (dk_at dksX0_whole_1 5 rfl rfl)
theorem dX0_whole_31 : decode cX0_whole 31 = .ok (.iconst 4, 1) := dk_7 (dk_at dksX0_whole_1 7 rfl rfl)
theorem dX0_whole_32 : decode cX0_whole 32 = .ok (.ireturn, 1) := dk_172 (dk_at dksX0_whole_1 8 rfl rfl)
theorem dX0_whole_33 : decode cX0_whole 33 = .ok (.iconst 0, 1) := dk_3 (dk_at dksX0_whole_1 9 rfl rfl)
theorem dX0_whole_34 : decode cX0_whole 34 = .ok (.ireturn, 1) := dk_172 (dk_at dksX0_whole_1 10 rfl rfl)
abbrev cX0_decimal : ByteArray := method_24_code
def yX0_decimal : MethodName := ⟨RX0, "decimal", "(LLibraryDesk;IIIII[J)I"⟩
def dkwX0_decimal_1 : List UInt8 := [58, 7, 5, 172, 58, 7, 6, 172, 58, 7, 7, 172, 3, 172]
abbrev dktX0_decimal_1 : List UInt8 := dkwX0_decimal_1 ++ []
def dkwX0_decimal_0 : List UInt8 := [25, 6, 3, 42, 27, 28, 29, 21, 4, 21, 5, 182, 0, 97, 133, 80, 167, 0, 19, 58, 7, 4, 172]
abbrev dktX0_decimal_0 : List UInt8 := dkwX0_decimal_0 ++ dktX0_decimal_1
theorem dksX0_decimal_0 : cX0_decimal.data.toList.drop 0 = dktX0_decimal_0 := by decide +kernel
theorem dksX0_decimal_1 : cX0_decimal.data.toList.drop 23 = dktX0_decimal_1 := dk_seg dksX0_decimal_0 23 rfl rfl
theorem dX0_decimal_0 : decode cX0_decimal 0 = .ok (.aload 6, 2) := dk_25 6 (dk_at dksX0_decimal_0 0 rfl rfl)
theorem dX0_decimal_2 : decode cX0_decimal 2 = .ok (.iconst 0, 1) := dk_3 (dk_at dksX0_decimal_0 2 rfl rfl)
theorem dX0_decimal_3 : decode cX0_decimal 3 = .ok (.aload_n 0, 1) := dk_42 (dk_at dksX0_decimal_0 3 rfl rfl)
theorem dX0_decimal_4 : decode cX0_decimal 4 = .ok (.iload_n 1, 1) := dk_27 (dk_at dksX0_decimal_0 4 rfl rfl)
theorem dX0_decimal_5 : decode cX0_decimal 5 = .ok (.iload_n 2, 1) := dk_28 (dk_at dksX0_decimal_0 5 rfl rfl)
theorem dX0_decimal_6 : decode cX0_decimal 6 = .ok (.iload_n 3, 1) := dk_29 (dk_at dksX0_decimal_0 6 rfl rfl)
theorem dX0_decimal_7 : decode cX0_decimal 7 = .ok (.iload 4, 2) := dk_21 4 (dk_at dksX0_decimal_0 7 rfl rfl)
theorem dX0_decimal_9 : decode cX0_decimal 9 = .ok (.iload 5, 2) := dk_21 5 (dk_at dksX0_decimal_0 9 rfl rfl)
theorem dX0_decimal_11 : decode cX0_decimal 11 = .ok (.invokevirtual 97, 3) := dk_182 0 97 (dk_at dksX0_decimal_0 11 rfl rfl)
theorem dX0_decimal_14 : decode cX0_decimal 14 = .ok (.i2l, 1) := dk_133 (dk_at dksX0_decimal_0 14 rfl rfl)
theorem dX0_decimal_15 : decode cX0_decimal 15 = .ok (.lastore, 1) := dk_80 (dk_at dksX0_decimal_0 15 rfl rfl)
theorem dX0_decimal_16 : decode cX0_decimal 16 = .ok (.goto 19, 3) := dk_167 0 19 (dk_at dksX0_decimal_0 16 rfl rfl)
theorem dX0_decimal_19 : decode cX0_decimal 19 = .ok (.astore 7, 2) := dk_58 7 (dk_at dksX0_decimal_0 19 rfl rfl)
theorem dX0_decimal_21 : decode cX0_decimal 21 = .ok (.iconst 1, 1) := dk_4 (dk_at dksX0_decimal_0 21 rfl rfl)
theorem dX0_decimal_22 : decode cX0_decimal 22 = .ok (.ireturn, 1) := dk_172 (dk_at dksX0_decimal_0 22 rfl rfl)
theorem dX0_decimal_23 : decode cX0_decimal 23 = .ok (.astore 7, 2) := dk_58 7 (dk_at dksX0_decimal_1 0 rfl rfl)
theorem dX0_decimal_25 : decode cX0_decimal 25 = .ok (.iconst 2, 1) := dk_5 (dk_at dksX0_decimal_1 2 rfl rfl)
theorem dX0_decimal_26 : decode cX0_decimal 26 = .ok (.ireturn, 1) := dk_172 (dk_at dksX0_decimal_1 3 rfl rfl)
theorem dX0_decimal_27 : decode cX0_decimal 27 = .ok (.astore 7, 2) := dk_58 7 (dk_at dksX0_decimal_1 4 rfl rfl)
theorem dX0_decimal_29 : decode cX0_decimal 29 = .ok (.iconst 3, 1) := dk_6 (dk_at dksX0_decimal_1 6 rfl rfl)
theorem dX0_decimal_30 : decode cX0_decimal 30 = .ok (.ireturn, 1) := dk_172 (dk_at dksX0_decimal_1 7 rfl rfl)
theorem dX0_decimal_31 : decode cX0_decimal 31 = .ok (.astore 7, 2) := dk_58 7 (dk_at dksX0_decimal_1 8 rfl rfl)
theorem dX0_decimal_33 : decode cX0_decimal 33 = .ok (.iconst 4, 1) := dk_7 (dk_at dksX0_decimal_1 10 rfl rfl)
theorem dX0_decimal_34 : decode cX0_decimal 34 = .ok (.ireturn, 1) := dk_172 (dk_at dksX0_decimal_1 11 rfl rfl)
theorem dX0_decimal_35 : decode cX0_decimal 35 = .ok (.iconst 0, 1) := dk_3 (dk_at dksX0_decimal_1 12 rfl rfl)
theorem dX0_decimal_36 : decode cX0_decimal 36 = .ok (.ireturn, 1) := dk_172 (dk_at dksX0_decimal_1 13 rfl rfl)
abbrev cX0_tell : ByteArray := method_25_code
def yX0_tell : MethodName := ⟨RX0, "tell", "(LLibraryDesk;II[J)I"⟩
def dkwX0_tell_1 : List UInt8 := [3, 172]
abbrev dktX0_tell_1 : List UInt8 := dkwX0_tell_1 ++ []
def dkwX0_tell_0 : List UInt8 := [45, 3, 42, 27, 28, 182, 0, 100, 80, 167, 0, 15, 58, 4, 4, 172, 58, 4, 5, 172, 58, 4, 6, 172]
abbrev dktX0_tell_0 : List UInt8 := dkwX0_tell_0 ++ dktX0_tell_1
theorem dksX0_tell_0 : cX0_tell.data.toList.drop 0 = dktX0_tell_0 := by decide +kernel
theorem dksX0_tell_1 : cX0_tell.data.toList.drop 24 = dktX0_tell_1 := dk_seg dksX0_tell_0 24 rfl rfl
theorem dX0_tell_0 : decode cX0_tell 0 = .ok (.aload_n 3, 1) := dk_45 (dk_at dksX0_tell_0 0 rfl rfl)
theorem dX0_tell_1 : decode cX0_tell 1 = .ok (.iconst 0, 1) := dk_3 (dk_at dksX0_tell_0 1 rfl rfl)
theorem dX0_tell_2 : decode cX0_tell 2 = .ok (.aload_n 0, 1) := dk_42 (dk_at dksX0_tell_0 2 rfl rfl)
theorem dX0_tell_3 : decode cX0_tell 3 = .ok (.iload_n 1, 1) := dk_27 (dk_at dksX0_tell_0 3 rfl rfl)
theorem dX0_tell_4 : decode cX0_tell 4 = .ok (.iload_n 2, 1) := dk_28 (dk_at dksX0_tell_0 4 rfl rfl)
theorem dX0_tell_5 : decode cX0_tell 5 = .ok (.invokevirtual 100, 3) := dk_182 0 100 (dk_at dksX0_tell_0 5 rfl rfl)
theorem dX0_tell_8 : decode cX0_tell 8 = .ok (.lastore, 1) := dk_80 (dk_at dksX0_tell_0 8 rfl rfl)
theorem dX0_tell_9 : decode cX0_tell 9 = .ok (.goto 15, 3) := dk_167 0 15 (dk_at dksX0_tell_0 9 rfl rfl)
theorem dX0_tell_12 : decode cX0_tell 12 = .ok (.astore 4, 2) := dk_58 4 (dk_at dksX0_tell_0 12 rfl rfl)
theorem dX0_tell_14 : decode cX0_tell 14 = .ok (.iconst 1, 1) := dk_4 (dk_at dksX0_tell_0 14 rfl rfl)
theorem dX0_tell_15 : decode cX0_tell 15 = .ok (.ireturn, 1) := dk_172 (dk_at dksX0_tell_0 15 rfl rfl)
theorem dX0_tell_16 : decode cX0_tell 16 = .ok (.astore 4, 2) := dk_58 4 (dk_at dksX0_tell_0 16 rfl rfl)
theorem dX0_tell_18 : decode cX0_tell 18 = .ok (.iconst 2, 1) := dk_5 (dk_at dksX0_tell_0 18 rfl rfl)
theorem dX0_tell_19 : decode cX0_tell 19 = .ok (.ireturn, 1) := dk_172 (dk_at dksX0_tell_0 19 rfl rfl)
theorem dX0_tell_20 : decode cX0_tell 20 = .ok (.astore 4, 2) := dk_58 4 (dk_at dksX0_tell_0 20 rfl rfl)
theorem dX0_tell_22 : decode cX0_tell 22 = .ok (.iconst 3, 1) := dk_6 (dk_at dksX0_tell_0 22 rfl rfl)
theorem dX0_tell_23 : decode cX0_tell 23 = .ok (.ireturn, 1) := dk_172 (dk_at dksX0_tell_0 23 rfl rfl)
theorem dX0_tell_24 : decode cX0_tell 24 = .ok (.iconst 0, 1) := dk_3 (dk_at dksX0_tell_1 0 rfl rfl)
theorem dX0_tell_25 : decode cX0_tell 25 = .ok (.ireturn, 1) := dk_172 (dk_at dksX0_tell_1 1 rfl rfl)
abbrev cX0_order : ByteArray := method_26_code
def yX0_order : MethodName := ⟨RX0, "orde\x72", "(LLibraryDesk;II[J)I"⟩
def dkwX0_order_0 : List UInt8 := [45, 3, 42, 27, 28, 182, 0, 104, 133, 80, 167, 0, 11, 58, 4, 4, 172, 58, 4, 5, 172, 3, 172]
abbrev dktX0_order_0 : List UInt8 := dkwX0_order_0 ++ []
theorem dksX0_order_0 : cX0_order.data.toList.drop 0 = dktX0_order_0 := by decide +kernel
theorem dX0_order_0 : decode cX0_order 0 = .ok (.aload_n 3, 1) := dk_45 (dk_at dksX0_order_0 0 rfl rfl)
theorem dX0_order_1 : decode cX0_order 1 = .ok (.iconst 0, 1) := dk_3 (dk_at dksX0_order_0 1 rfl rfl)
theorem dX0_order_2 : decode cX0_order 2 = .ok (.aload_n 0, 1) := dk_42 (dk_at dksX0_order_0 2 rfl rfl)
theorem dX0_order_3 : decode cX0_order 3 = .ok (.iload_n 1, 1) := dk_27 (dk_at dksX0_order_0 3 rfl rfl)
theorem dX0_order_4 : decode cX0_order 4 = .ok (.iload_n 2, 1) := dk_28 (dk_at dksX0_order_0 4 rfl rfl)
theorem dX0_order_5 : decode cX0_order 5 = .ok (.invokevirtual 104, 3) := dk_182 0 104 (dk_at dksX0_order_0 5 rfl rfl)
theorem dX0_order_8 : decode cX0_order 8 = .ok (.i2l, 1) := dk_133 (dk_at dksX0_order_0 8 rfl rfl)
theorem dX0_order_9 : decode cX0_order 9 = .ok (.lastore, 1) := dk_80 (dk_at dksX0_order_0 9 rfl rfl)
theorem dX0_order_10 : decode cX0_order 10 = .ok (.goto 11, 3) := dk_167 0 11 (dk_at dksX0_order_0 10 rfl rfl)
theorem dX0_order_13 : decode cX0_order 13 = .ok (.astore 4, 2) := dk_58 4 (dk_at dksX0_order_0 13 rfl rfl)
theorem dX0_order_15 : decode cX0_order 15 = .ok (.iconst 1, 1) := dk_4 (dk_at dksX0_order_0 15 rfl rfl)
theorem dX0_order_16 : decode cX0_order 16 = .ok (.ireturn, 1) := dk_172 (dk_at dksX0_order_0 16 rfl rfl)
theorem dX0_order_17 : decode cX0_order 17 = .ok (.astore 4, 2) := dk_58 4 (dk_at dksX0_order_0 17 rfl rfl)
theorem dX0_order_19 : decode cX0_order 19 = .ok (.iconst 2, 1) := dk_5 (dk_at dksX0_order_0 19 rfl rfl)
theorem dX0_order_20 : decode cX0_order 20 = .ok (.ireturn, 1) := dk_172 (dk_at dksX0_order_0 20 rfl rfl)
theorem dX0_order_21 : decode cX0_order 21 = .ok (.iconst 0, 1) := dk_3 (dk_at dksX0_order_0 21 rfl rfl)
theorem dX0_order_22 : decode cX0_order 22 = .ok (.ireturn, 1) := dk_172 (dk_at dksX0_order_0 22 rfl rfl)
abbrev cX0_read : ByteArray := method_27_code
def yX0_read : MethodName := ⟨RX0, "read", "(LLibraryDesk;II[J)I"⟩
def dkwX0_read_1 : List UInt8 := [172, 58, 4, 7, 172, 58, 4, 8, 172, 3, 172]
abbrev dktX0_read_1 : List UInt8 := dkwX0_read_1 ++ []
def dkwX0_read_0 : List UInt8 := [45, 3, 42, 27, 28, 182, 0, 107, 133, 80, 167, 0, 23, 58, 4, 4, 172, 58, 4, 5, 172, 58, 4, 6]
abbrev dktX0_read_0 : List UInt8 := dkwX0_read_0 ++ dktX0_read_1
theorem dksX0_read_0 : cX0_read.data.toList.drop 0 = dktX0_read_0 := by decide +kernel
theorem dksX0_read_1 : cX0_read.data.toList.drop 24 = dktX0_read_1 := dk_seg dksX0_read_0 24 rfl rfl
theorem dX0_read_0 : decode cX0_read 0 = .ok (.aload_n 3, 1) := dk_45 (dk_at dksX0_read_0 0 rfl rfl)
theorem dX0_read_1 : decode cX0_read 1 = .ok (.iconst 0, 1) := dk_3 (dk_at dksX0_read_0 1 rfl rfl)
theorem dX0_read_2 : decode cX0_read 2 = .ok (.aload_n 0, 1) := dk_42 (dk_at dksX0_read_0 2 rfl rfl)
theorem dX0_read_3 : decode cX0_read 3 = .ok (.iload_n 1, 1) := dk_27 (dk_at dksX0_read_0 3 rfl rfl)
theorem dX0_read_4 : decode cX0_read 4 = .ok (.iload_n 2, 1) := dk_28 (dk_at dksX0_read_0 4 rfl rfl)
theorem dX0_read_5 : decode cX0_read 5 = .ok (.invokevirtual 107, 3) := dk_182 0 107 (dk_at dksX0_read_0 5 rfl rfl)
theorem dX0_read_8 : decode cX0_read 8 = .ok (.i2l, 1) := dk_133 (dk_at dksX0_read_0 8 rfl rfl)
theorem dX0_read_9 : decode cX0_read 9 = .ok (.lastore, 1) := dk_80 (dk_at dksX0_read_0 9 rfl rfl)
theorem dX0_read_10 : decode cX0_read 10 = .ok (.goto 23, 3) := dk_167 0 23 (dk_at dksX0_read_0 10 rfl rfl)
theorem dX0_read_13 : decode cX0_read 13 = .ok (.astore 4, 2) := dk_58 4 (dk_at dksX0_read_0 13 rfl rfl)
theorem dX0_read_15 : decode cX0_read 15 = .ok (.iconst 1, 1) := dk_4 (dk_at dksX0_read_0 15 rfl rfl)
theorem dX0_read_16 : decode cX0_read 16 = .ok (.ireturn, 1) := dk_172 (dk_at dksX0_read_0 16 rfl rfl)
theorem dX0_read_17 : decode cX0_read 17 = .ok (.astore 4, 2) := dk_58 4 (dk_at dksX0_read_0 17 rfl rfl)
theorem dX0_read_19 : decode cX0_read 19 = .ok (.iconst 2, 1) := dk_5 (dk_at dksX0_read_0 19 rfl rfl)
theorem dX0_read_20 : decode cX0_read 20 = .ok (.ireturn, 1) := dk_172 (dk_at dksX0_read_0 20 rfl rfl)
theorem dX0_read_21 : decode cX0_read 21 = .ok (.astore 4, 2) := dk_58 4 (dk_at dksX0_read_0 21 rfl rfl)
theorem dX0_read_23 : decode cX0_read 23 = .ok (.iconst 3, 1) := dk_6 (dk_at dksX0_read_0 23 rfl rfl)
theorem dX0_read_24 : decode cX0_read 24 = .ok (.ireturn, 1) := dk_172 (dk_at dksX0_read_1 0 rfl rfl)
theorem dX0_read_25 : decode cX0_read 25 = .ok (.astore 4, 2) := dk_58 4 (dk_at dksX0_read_1 1 rfl rfl)
theorem dX0_read_27 : decode cX0_read 27 = .ok (.iconst 4, 1) := dk_7 (dk_at dksX0_read_1 3 rfl rfl)
theorem dX0_read_28 : decode cX0_read 28 = .ok (.ireturn, 1) := dk_172 (dk_at dksX0_read_1 4 rfl rfl)
theorem dX0_read_29 : decode cX0_read 29 = .ok (.astore 4, 2) := dk_58 4 (dk_at dksX0_read_1 5 rfl rfl)
theorem dX0_read_31 : decode cX0_read 31 = .ok (.iconst 5, 1) := dk_8 (dk_at dksX0_read_1 7 rfl rfl)
theorem dX0_read_32 : decode cX0_read 32 = .ok (.ireturn, 1) := dk_172 (dk_at dksX0_read_1 8 rfl rfl)
theorem dX0_read_33 : decode cX0_read 33 = .ok (.iconst 0, 1) := dk_3 (dk_at dksX0_read_1 9 rfl rfl)
theorem dX0_read_34 : decode cX0_read 34 = .ok (.ireturn, 1) := dk_172 (dk_at dksX0_read_1 10 rfl rfl)
abbrev cX0_show : ByteArray := method_28_code
def yX0_show : MethodName := ⟨RX0, "show", "(LLibraryDesk;II[J)I"⟩
def dkwX0_show_1 : List UInt8 := [172, 3, 172]
abbrev dktX0_show_1 : List UInt8 := dkwX0_show_1 ++ []
def dkwX0_show_0 : List UInt8 := [45, 3, 42, 27, 28, 182, 0, 110, 133, 80, 167, 0, 15, 58, 4, 4, 172, 58, 4, 5, 172, 58, 4, 6]
abbrev dktX0_show_0 : List UInt8 := dkwX0_show_0 ++ dktX0_show_1
theorem dksX0_show_0 : cX0_show.data.toList.drop 0 = dktX0_show_0 := by decide +kernel
theorem dksX0_show_1 : cX0_show.data.toList.drop 24 = dktX0_show_1 := dk_seg dksX0_show_0 24 rfl rfl
theorem dX0_show_0 : decode cX0_show 0 = .ok (.aload_n 3, 1) := dk_45 (dk_at dksX0_show_0 0 rfl rfl)
theorem dX0_show_1 : decode cX0_show 1 = .ok (.iconst 0, 1) := dk_3 (dk_at dksX0_show_0 1 rfl rfl)
theorem dX0_show_2 : decode cX0_show 2 = .ok (.aload_n 0, 1) := dk_42 (dk_at dksX0_show_0 2 rfl rfl)
theorem dX0_show_3 : decode cX0_show 3 = .ok (.iload_n 1, 1) := dk_27 (dk_at dksX0_show_0 3 rfl rfl)
theorem dX0_show_4 : decode cX0_show 4 = .ok (.iload_n 2, 1) := dk_28 (dk_at dksX0_show_0 4 rfl rfl)
theorem dX0_show_5 : decode cX0_show 5 = .ok (.invokevirtual 110, 3) := dk_182 0 110 (dk_at dksX0_show_0 5 rfl rfl)
theorem dX0_show_8 : decode cX0_show 8 = .ok (.i2l, 1) := dk_133 (dk_at dksX0_show_0 8 rfl rfl)
theorem dX0_show_9 : decode cX0_show 9 = .ok (.lastore, 1) := dk_80 (dk_at dksX0_show_0 9 rfl rfl)
theorem dX0_show_10 : decode cX0_show 10 = .ok (.goto 15, 3) := dk_167 0 15 (dk_at dksX0_show_0 10 rfl rfl)
theorem dX0_show_13 : decode cX0_show 13 = .ok (.astore 4, 2) := dk_58 4 (dk_at dksX0_show_0 13 rfl rfl)
theorem dX0_show_15 : decode cX0_show 15 = .ok (.iconst 1, 1) := dk_4 (dk_at dksX0_show_0 15 rfl rfl)
theorem dX0_show_16 : decode cX0_show 16 = .ok (.ireturn, 1) := dk_172 (dk_at dksX0_show_0 16 rfl rfl)
theorem dX0_show_17 : decode cX0_show 17 = .ok (.astore 4, 2) := dk_58 4 (dk_at dksX0_show_0 17 rfl rfl)
theorem dX0_show_19 : decode cX0_show 19 = .ok (.iconst 2, 1) := dk_5 (dk_at dksX0_show_0 19 rfl rfl)
theorem dX0_show_20 : decode cX0_show 20 = .ok (.ireturn, 1) := dk_172 (dk_at dksX0_show_0 20 rfl rfl)
theorem dX0_show_21 : decode cX0_show 21 = .ok (.astore 4, 2) := dk_58 4 (dk_at dksX0_show_0 21 rfl rfl)
theorem dX0_show_23 : decode cX0_show 23 = .ok (.iconst 3, 1) := dk_6 (dk_at dksX0_show_0 23 rfl rfl)
theorem dX0_show_24 : decode cX0_show 24 = .ok (.ireturn, 1) := dk_172 (dk_at dksX0_show_1 0 rfl rfl)
theorem dX0_show_25 : decode cX0_show 25 = .ok (.iconst 0, 1) := dk_3 (dk_at dksX0_show_1 1 rfl rfl)
theorem dX0_show_26 : decode cX0_show 26 = .ok (.ireturn, 1) := dk_172 (dk_at dksX0_show_1 2 rfl rfl)
abbrev cX0_stream : ByteArray := method_29_code
def yX0_stream : MethodName := ⟨RX0, "stream", "(LLibraryDesk;[J)I"⟩
def dkwX0_stream_1 : List UInt8 := [172, 3, 172]
abbrev dktX0_stream_1 : List UInt8 := dkwX0_stream_1 ++ []
def dkwX0_stream_0 : List UInt8 := [43, 3, 42, 182, 0, 113, 80, 167, 0, 18, 77, 4, 172, 77, 5, 172, 77, 6, 172, 77, 7, 172, 77, 8]
abbrev dktX0_stream_0 : List UInt8 := dkwX0_stream_0 ++ dktX0_stream_1
theorem dksX0_stream_0 : cX0_stream.data.toList.drop 0 = dktX0_stream_0 := by decide +kernel
theorem dksX0_stream_1 : cX0_stream.data.toList.drop 24 = dktX0_stream_1 := dk_seg dksX0_stream_0 24 rfl rfl
theorem dX0_stream_0 : decode cX0_stream 0 = .ok (.aload_n 1, 1) := dk_43 (dk_at dksX0_stream_0 0 rfl rfl)
theorem dX0_stream_1 : decode cX0_stream 1 = .ok (.iconst 0, 1) := dk_3 (dk_at dksX0_stream_0 1 rfl rfl)
theorem dX0_stream_2 : decode cX0_stream 2 = .ok (.aload_n 0, 1) := dk_42 (dk_at dksX0_stream_0 2 rfl rfl)
theorem dX0_stream_3 : decode cX0_stream 3 = .ok (.invokevirtual 113, 3) := dk_182 0 113 (dk_at dksX0_stream_0 3 rfl rfl)
theorem dX0_stream_6 : decode cX0_stream 6 = .ok (.lastore, 1) := dk_80 (dk_at dksX0_stream_0 6 rfl rfl)
theorem dX0_stream_7 : decode cX0_stream 7 = .ok (.goto 18, 3) := dk_167 0 18 (dk_at dksX0_stream_0 7 rfl rfl)
theorem dX0_stream_10 : decode cX0_stream 10 = .ok (.astore_n 2, 1) := dk_77 (dk_at dksX0_stream_0 10 rfl rfl)
theorem dX0_stream_11 : decode cX0_stream 11 = .ok (.iconst 1, 1) := dk_4 (dk_at dksX0_stream_0 11 rfl rfl)
theorem dX0_stream_12 : decode cX0_stream 12 = .ok (.ireturn, 1) := dk_172 (dk_at dksX0_stream_0 12 rfl rfl)
theorem dX0_stream_13 : decode cX0_stream 13 = .ok (.astore_n 2, 1) := dk_77 (dk_at dksX0_stream_0 13 rfl rfl)
theorem dX0_stream_14 : decode cX0_stream 14 = .ok (.iconst 2, 1) := dk_5 (dk_at dksX0_stream_0 14 rfl rfl)
theorem dX0_stream_15 : decode cX0_stream 15 = .ok (.ireturn, 1) := dk_172 (dk_at dksX0_stream_0 15 rfl rfl)
theorem dX0_stream_16 : decode cX0_stream 16 = .ok (.astore_n 2, 1) := dk_77 (dk_at dksX0_stream_0 16 rfl rfl)
theorem dX0_stream_17 : decode cX0_stream 17 = .ok (.iconst 3, 1) := dk_6 (dk_at dksX0_stream_0 17 rfl rfl)
theorem dX0_stream_18 : decode cX0_stream 18 = .ok (.ireturn, 1) := dk_172 (dk_at dksX0_stream_0 18 rfl rfl)
theorem dX0_stream_19 : decode cX0_stream 19 = .ok (.astore_n 2, 1) := dk_77 (dk_at dksX0_stream_0 19 rfl rfl)
theorem dX0_stream_20 : decode cX0_stream 20 = .ok (.iconst 4, 1) := dk_7 (dk_at dksX0_stream_0 20 rfl rfl)
theorem dX0_stream_21 : decode cX0_stream 21 = .ok (.ireturn, 1) := dk_172 (dk_at dksX0_stream_0 21 rfl rfl)
theorem dX0_stream_22 : decode cX0_stream 22 = .ok (.astore_n 2, 1) := dk_77 (dk_at dksX0_stream_0 22 rfl rfl)
theorem dX0_stream_23 : decode cX0_stream 23 = .ok (.iconst 5, 1) := dk_8 (dk_at dksX0_stream_0 23 rfl rfl)
theorem dX0_stream_24 : decode cX0_stream 24 = .ok (.ireturn, 1) := dk_172 (dk_at dksX0_stream_1 0 rfl rfl)
theorem dX0_stream_25 : decode cX0_stream 25 = .ok (.iconst 0, 1) := dk_3 (dk_at dksX0_stream_1 1 rfl rfl)
theorem dX0_stream_26 : decode cX0_stream 26 = .ok (.ireturn, 1) := dk_172 (dk_at dksX0_stream_1 2 rfl rfl)
abbrev cX0_thread : ByteArray := method_30_code
def yX0_thread : MethodName := ⟨RX0, "thread", "(LLibraryDesk;[J)I"⟩
def dkwX0_thread_0 : List UInt8 := [43, 3, 42, 182, 0, 117, 133, 80, 167, 0, 9, 77, 4, 172, 77, 5, 172, 3, 172]
abbrev dktX0_thread_0 : List UInt8 := dkwX0_thread_0 ++ []
theorem dksX0_thread_0 : cX0_thread.data.toList.drop 0 = dktX0_thread_0 := by decide +kernel
theorem dX0_thread_0 : decode cX0_thread 0 = .ok (.aload_n 1, 1) := dk_43 (dk_at dksX0_thread_0 0 rfl rfl)
theorem dX0_thread_1 : decode cX0_thread 1 = .ok (.iconst 0, 1) := dk_3 (dk_at dksX0_thread_0 1 rfl rfl)
theorem dX0_thread_2 : decode cX0_thread 2 = .ok (.aload_n 0, 1) := dk_42 (dk_at dksX0_thread_0 2 rfl rfl)
theorem dX0_thread_3 : decode cX0_thread 3 = .ok (.invokevirtual 117, 3) := dk_182 0 117 (dk_at dksX0_thread_0 3 rfl rfl)
theorem dX0_thread_6 : decode cX0_thread 6 = .ok (.i2l, 1) := dk_133 (dk_at dksX0_thread_0 6 rfl rfl)
theorem dX0_thread_7 : decode cX0_thread 7 = .ok (.lastore, 1) := dk_80 (dk_at dksX0_thread_0 7 rfl rfl)
theorem dX0_thread_8 : decode cX0_thread 8 = .ok (.goto 9, 3) := dk_167 0 9 (dk_at dksX0_thread_0 8 rfl rfl)
theorem dX0_thread_11 : decode cX0_thread 11 = .ok (.astore_n 2, 1) := dk_77 (dk_at dksX0_thread_0 11 rfl rfl)
theorem dX0_thread_12 : decode cX0_thread 12 = .ok (.iconst 1, 1) := dk_4 (dk_at dksX0_thread_0 12 rfl rfl)
theorem dX0_thread_13 : decode cX0_thread 13 = .ok (.ireturn, 1) := dk_172 (dk_at dksX0_thread_0 13 rfl rfl)
theorem dX0_thread_14 : decode cX0_thread 14 = .ok (.astore_n 2, 1) := dk_77 (dk_at dksX0_thread_0 14 rfl rfl)
theorem dX0_thread_15 : decode cX0_thread 15 = .ok (.iconst 2, 1) := dk_5 (dk_at dksX0_thread_0 15 rfl rfl)
theorem dX0_thread_16 : decode cX0_thread 16 = .ok (.ireturn, 1) := dk_172 (dk_at dksX0_thread_0 16 rfl rfl)
theorem dX0_thread_17 : decode cX0_thread 17 = .ok (.iconst 0, 1) := dk_3 (dk_at dksX0_thread_0 17 rfl rfl)
theorem dX0_thread_18 : decode cX0_thread 18 = .ok (.ireturn, 1) := dk_172 (dk_at dksX0_thread_0 18 rfl rfl)
abbrev cX0_step : ByteArray := method_31_code
def yX0_step : MethodName := ⟨RX0, "step", "(LLibraryDesk;I[J)I"⟩
def dkwX0_step_0 : List UInt8 := [44, 3, 42, 27, 182, 0, 120, 133, 80, 167, 0, 6, 78, 4, 172, 3, 172]
abbrev dktX0_step_0 : List UInt8 := dkwX0_step_0 ++ []
theorem dksX0_step_0 : cX0_step.data.toList.drop 0 = dktX0_step_0 := by decide +kernel
theorem dX0_step_0 : decode cX0_step 0 = .ok (.aload_n 2, 1) := dk_44 (dk_at dksX0_step_0 0 rfl rfl)
theorem dX0_step_1 : decode cX0_step 1 = .ok (.iconst 0, 1) := dk_3 (dk_at dksX0_step_0 1 rfl rfl)
theorem dX0_step_2 : decode cX0_step 2 = .ok (.aload_n 0, 1) := dk_42 (dk_at dksX0_step_0 2 rfl rfl)
theorem dX0_step_3 : decode cX0_step 3 = .ok (.iload_n 1, 1) := dk_27 (dk_at dksX0_step_0 3 rfl rfl)
theorem dX0_step_4 : decode cX0_step 4 = .ok (.invokevirtual 120, 3) := dk_182 0 120 (dk_at dksX0_step_0 4 rfl rfl)
theorem dX0_step_7 : decode cX0_step 7 = .ok (.i2l, 1) := dk_133 (dk_at dksX0_step_0 7 rfl rfl)
theorem dX0_step_8 : decode cX0_step 8 = .ok (.lastore, 1) := dk_80 (dk_at dksX0_step_0 8 rfl rfl)
theorem dX0_step_9 : decode cX0_step 9 = .ok (.goto 6, 3) := dk_167 0 6 (dk_at dksX0_step_0 9 rfl rfl)
theorem dX0_step_12 : decode cX0_step 12 = .ok (.astore_n 3, 1) := dk_78 (dk_at dksX0_step_0 12 rfl rfl)
theorem dX0_step_13 : decode cX0_step 13 = .ok (.iconst 1, 1) := dk_4 (dk_at dksX0_step_0 13 rfl rfl)
theorem dX0_step_14 : decode cX0_step 14 = .ok (.ireturn, 1) := dk_172 (dk_at dksX0_step_0 14 rfl rfl)
theorem dX0_step_15 : decode cX0_step 15 = .ok (.iconst 0, 1) := dk_3 (dk_at dksX0_step_0 15 rfl rfl)
theorem dX0_step_16 : decode cX0_step 16 = .ok (.ireturn, 1) := dk_172 (dk_at dksX0_step_0 16 rfl rfl)
abbrev cX0_run : ByteArray := method_32_code
def yX0_run : MethodName := ⟨RX0, "run", "(LLibraryDesk;II[J)I"⟩
def dkwX0_run_0 : List UInt8 := [45, 3, 42, 27, 28, 182, 0, 123, 133, 80, 167, 0, 7, 58, 4, 4, 172, 3, 172]
abbrev dktX0_run_0 : List UInt8 := dkwX0_run_0 ++ []
theorem dksX0_run_0 : cX0_run.data.toList.drop 0 = dktX0_run_0 := by decide +kernel
theorem dX0_run_0 : decode cX0_run 0 = .ok (.aload_n 3, 1) := dk_45 (dk_at dksX0_run_0 0 rfl rfl)
theorem dX0_run_1 : decode cX0_run 1 = .ok (.iconst 0, 1) := dk_3 (dk_at dksX0_run_0 1 rfl rfl)
theorem dX0_run_2 : decode cX0_run 2 = .ok (.aload_n 0, 1) := dk_42 (dk_at dksX0_run_0 2 rfl rfl)
theorem dX0_run_3 : decode cX0_run 3 = .ok (.iload_n 1, 1) := dk_27 (dk_at dksX0_run_0 3 rfl rfl)
theorem dX0_run_4 : decode cX0_run 4 = .ok (.iload_n 2, 1) := dk_28 (dk_at dksX0_run_0 4 rfl rfl)
theorem dX0_run_5 : decode cX0_run 5 = .ok (.invokevirtual 123, 3) := dk_182 0 123 (dk_at dksX0_run_0 5 rfl rfl)
theorem dX0_run_8 : decode cX0_run 8 = .ok (.i2l, 1) := dk_133 (dk_at dksX0_run_0 8 rfl rfl)
theorem dX0_run_9 : decode cX0_run 9 = .ok (.lastore, 1) := dk_80 (dk_at dksX0_run_0 9 rfl rfl)
theorem dX0_run_10 : decode cX0_run 10 = .ok (.goto 7, 3) := dk_167 0 7 (dk_at dksX0_run_0 10 rfl rfl)
theorem dX0_run_13 : decode cX0_run 13 = .ok (.astore 4, 2) := dk_58 4 (dk_at dksX0_run_0 13 rfl rfl)
theorem dX0_run_15 : decode cX0_run 15 = .ok (.iconst 1, 1) := dk_4 (dk_at dksX0_run_0 15 rfl rfl)
theorem dX0_run_16 : decode cX0_run 16 = .ok (.ireturn, 1) := dk_172 (dk_at dksX0_run_0 16 rfl rfl)
theorem dX0_run_17 : decode cX0_run 17 = .ok (.iconst 0, 1) := dk_3 (dk_at dksX0_run_0 17 rfl rfl)
theorem dX0_run_18 : decode cX0_run 18 = .ok (.ireturn, 1) := dk_172 (dk_at dksX0_run_0 18 rfl rfl)
abbrev cX0_tick : ByteArray := method_33_code
def yX0_tick : MethodName := ⟨RX0, "tick", "(LLibraryDesk;I[J)I"⟩
def dkwX0_tick_0 : List UInt8 := [44, 3, 42, 27, 182, 0, 126, 133, 80, 167, 0, 6, 78, 4, 172, 3, 172]
abbrev dktX0_tick_0 : List UInt8 := dkwX0_tick_0 ++ []
theorem dksX0_tick_0 : cX0_tick.data.toList.drop 0 = dktX0_tick_0 := by decide +kernel
theorem dX0_tick_0 : decode cX0_tick 0 = .ok (.aload_n 2, 1) := dk_44 (dk_at dksX0_tick_0 0 rfl rfl)
theorem dX0_tick_1 : decode cX0_tick 1 = .ok (.iconst 0, 1) := dk_3 (dk_at dksX0_tick_0 1 rfl rfl)
theorem dX0_tick_2 : decode cX0_tick 2 = .ok (.aload_n 0, 1) := dk_42 (dk_at dksX0_tick_0 2 rfl rfl)
theorem dX0_tick_3 : decode cX0_tick 3 = .ok (.iload_n 1, 1) := dk_27 (dk_at dksX0_tick_0 3 rfl rfl)
theorem dX0_tick_4 : decode cX0_tick 4 = .ok (.invokevirtual 126, 3) := dk_182 0 126 (dk_at dksX0_tick_0 4 rfl rfl)
theorem dX0_tick_7 : decode cX0_tick 7 = .ok (.i2l, 1) := dk_133 (dk_at dksX0_tick_0 7 rfl rfl)
theorem dX0_tick_8 : decode cX0_tick 8 = .ok (.lastore, 1) := dk_80 (dk_at dksX0_tick_0 8 rfl rfl)
theorem dX0_tick_9 : decode cX0_tick 9 = .ok (.goto 6, 3) := dk_167 0 6 (dk_at dksX0_tick_0 9 rfl rfl)
theorem dX0_tick_12 : decode cX0_tick 12 = .ok (.astore_n 3, 1) := dk_78 (dk_at dksX0_tick_0 12 rfl rfl)
theorem dX0_tick_13 : decode cX0_tick 13 = .ok (.iconst 1, 1) := dk_4 (dk_at dksX0_tick_0 13 rfl rfl)
theorem dX0_tick_14 : decode cX0_tick 14 = .ok (.ireturn, 1) := dk_172 (dk_at dksX0_tick_0 14 rfl rfl)
theorem dX0_tick_15 : decode cX0_tick 15 = .ok (.iconst 0, 1) := dk_3 (dk_at dksX0_tick_0 15 rfl rfl)
theorem dX0_tick_16 : decode cX0_tick 16 = .ok (.ireturn, 1) := dk_172 (dk_at dksX0_tick_0 16 rfl rfl)
abbrev cX0_interrupt : ByteArray := method_34_code
def yX0_interrupt : MethodName := ⟨RX0, "interrupt", "(LLibraryDesk;I[J)I"⟩
def dkwX0_interrupt_0 : List UInt8 := [44, 3, 42, 27, 182, 0, 129, 133, 80, 167, 0, 6, 78, 4, 172, 3, 172]
abbrev dktX0_interrupt_0 : List UInt8 := dkwX0_interrupt_0 ++ []
theorem dksX0_interrupt_0 : cX0_interrupt.data.toList.drop 0 = dktX0_interrupt_0 := by decide +kernel
theorem dX0_interrupt_0 : decode cX0_interrupt 0 = .ok (.aload_n 2, 1) := dk_44 (dk_at dksX0_interrupt_0 0 rfl rfl)
theorem dX0_interrupt_1 : decode cX0_interrupt 1 = .ok (.iconst 0, 1) := dk_3 (dk_at dksX0_interrupt_0 1 rfl rfl)
theorem dX0_interrupt_2 : decode cX0_interrupt 2 = .ok (.aload_n 0, 1) := dk_42 (dk_at dksX0_interrupt_0 2 rfl rfl)
theorem dX0_interrupt_3 : decode cX0_interrupt 3 = .ok (.iload_n 1, 1) := dk_27 (dk_at dksX0_interrupt_0 3 rfl rfl)
theorem dX0_interrupt_4 : decode cX0_interrupt 4 = .ok (.invokevirtual 129, 3) := dk_182 0 129 (dk_at dksX0_interrupt_0 4 rfl rfl)
theorem dX0_interrupt_7 : decode cX0_interrupt 7 = .ok (.i2l, 1) := dk_133 (dk_at dksX0_interrupt_0 7 rfl rfl)
theorem dX0_interrupt_8 : decode cX0_interrupt 8 = .ok (.lastore, 1) := dk_80 (dk_at dksX0_interrupt_0 8 rfl rfl)
theorem dX0_interrupt_9 : decode cX0_interrupt 9 = .ok (.goto 6, 3) := dk_167 0 6 (dk_at dksX0_interrupt_0 9 rfl rfl)
theorem dX0_interrupt_12 : decode cX0_interrupt 12 = .ok (.astore_n 3, 1) := dk_78 (dk_at dksX0_interrupt_0 12 rfl rfl)
theorem dX0_interrupt_13 : decode cX0_interrupt 13 = .ok (.iconst 1, 1) := dk_4 (dk_at dksX0_interrupt_0 13 rfl rfl)
theorem dX0_interrupt_14 : decode cX0_interrupt 14 = .ok (.ireturn, 1) := dk_172 (dk_at dksX0_interrupt_0 14 rfl rfl)
theorem dX0_interrupt_15 : decode cX0_interrupt 15 = .ok (.iconst 0, 1) := dk_3 (dk_at dksX0_interrupt_0 15 rfl rfl)
theorem dX0_interrupt_16 : decode cX0_interrupt 16 = .ok (.ireturn, 1) := dk_172 (dk_at dksX0_interrupt_0 16 rfl rfl)
abbrev cX0_look : ByteArray := method_35_code
def yX0_look : MethodName := ⟨RX0, "look", "(LLibraryDesk;II[J)I"⟩
def dkwX0_look_0 : List UInt8 := [45, 3, 42, 27, 28, 182, 0, 132, 80, 167, 0, 7, 58, 4, 4, 172, 3, 172]
abbrev dktX0_look_0 : List UInt8 := dkwX0_look_0 ++ []
theorem dksX0_look_0 : cX0_look.data.toList.drop 0 = dktX0_look_0 := by decide +kernel
theorem dX0_look_0 : decode cX0_look 0 = .ok (.aload_n 3, 1) := dk_45 (dk_at dksX0_look_0 0 rfl rfl)
theorem dX0_look_1 : decode cX0_look 1 = .ok (.iconst 0, 1) := dk_3 (dk_at dksX0_look_0 1 rfl rfl)
theorem dX0_look_2 : decode cX0_look 2 = .ok (.aload_n 0, 1) := dk_42 (dk_at dksX0_look_0 2 rfl rfl)
theorem dX0_look_3 : decode cX0_look 3 = .ok (.iload_n 1, 1) := dk_27 (dk_at dksX0_look_0 3 rfl rfl)
theorem dX0_look_4 : decode cX0_look 4 = .ok (.iload_n 2, 1) := dk_28 (dk_at dksX0_look_0 4 rfl rfl)
theorem dX0_look_5 : decode cX0_look 5 = .ok (.invokevirtual 132, 3) := dk_182 0 132 (dk_at dksX0_look_0 5 rfl rfl)
theorem dX0_look_8 : decode cX0_look 8 = .ok (.lastore, 1) := dk_80 (dk_at dksX0_look_0 8 rfl rfl)
theorem dX0_look_9 : decode cX0_look 9 = .ok (.goto 7, 3) := dk_167 0 7 (dk_at dksX0_look_0 9 rfl rfl)
theorem dX0_look_12 : decode cX0_look 12 = .ok (.astore 4, 2) := dk_58 4 (dk_at dksX0_look_0 12 rfl rfl)
theorem dX0_look_14 : decode cX0_look 14 = .ok (.iconst 1, 1) := dk_4 (dk_at dksX0_look_0 14 rfl rfl)
theorem dX0_look_15 : decode cX0_look 15 = .ok (.ireturn, 1) := dk_172 (dk_at dksX0_look_0 15 rfl rfl)
theorem dX0_look_16 : decode cX0_look 16 = .ok (.iconst 0, 1) := dk_3 (dk_at dksX0_look_0 16 rfl rfl)
theorem dX0_look_17 : decode cX0_look 17 = .ok (.ireturn, 1) := dk_172 (dk_at dksX0_look_0 17 rfl rfl)
abbrev cX0_sync : ByteArray := method_36_code
def yX0_sync : MethodName := ⟨RX0, "sync", "(LLibraryDesk;II[J)I"⟩
def dkwX0_sync_1 : List UInt8 := [58, 4, 7, 172, 3, 172]
abbrev dktX0_sync_1 : List UInt8 := dkwX0_sync_1 ++ []
def dkwX0_sync_0 : List UInt8 := [45, 3, 42, 27, 28, 182, 0, 135, 80, 167, 0, 19, 58, 4, 4, 172, 58, 4, 5, 172, 58, 4, 6, 172]
abbrev dktX0_sync_0 : List UInt8 := dkwX0_sync_0 ++ dktX0_sync_1
theorem dksX0_sync_0 : cX0_sync.data.toList.drop 0 = dktX0_sync_0 := by decide +kernel
theorem dksX0_sync_1 : cX0_sync.data.toList.drop 24 = dktX0_sync_1 := dk_seg dksX0_sync_0 24 rfl rfl
theorem dX0_sync_0 : decode cX0_sync 0 = .ok (.aload_n 3, 1) := dk_45 (dk_at dksX0_sync_0 0 rfl rfl)
theorem dX0_sync_1 : decode cX0_sync 1 = .ok (.iconst 0, 1) := dk_3 (dk_at dksX0_sync_0 1 rfl rfl)
theorem dX0_sync_2 : decode cX0_sync 2 = .ok (.aload_n 0, 1) := dk_42 (dk_at dksX0_sync_0 2 rfl rfl)
theorem dX0_sync_3 : decode cX0_sync 3 = .ok (.iload_n 1, 1) := dk_27 (dk_at dksX0_sync_0 3 rfl rfl)
theorem dX0_sync_4 : decode cX0_sync 4 = .ok (.iload_n 2, 1) := dk_28 (dk_at dksX0_sync_0 4 rfl rfl)
theorem dX0_sync_5 : decode cX0_sync 5 = .ok (.invokevirtual 135, 3) := dk_182 0 135 (dk_at dksX0_sync_0 5 rfl rfl)
theorem dX0_sync_8 : decode cX0_sync 8 = .ok (.lastore, 1) := dk_80 (dk_at dksX0_sync_0 8 rfl rfl)
theorem dX0_sync_9 : decode cX0_sync 9 = .ok (.goto 19, 3) := dk_167 0 19 (dk_at dksX0_sync_0 9 rfl rfl)
theorem dX0_sync_12 : decode cX0_sync 12 = .ok (.astore 4, 2) := dk_58 4 (dk_at dksX0_sync_0 12 rfl rfl)
theorem dX0_sync_14 : decode cX0_sync 14 = .ok (.iconst 1, 1) := dk_4 (dk_at dksX0_sync_0 14 rfl rfl)
theorem dX0_sync_15 : decode cX0_sync 15 = .ok (.ireturn, 1) := dk_172 (dk_at dksX0_sync_0 15 rfl rfl)
theorem dX0_sync_16 : decode cX0_sync 16 = .ok (.astore 4, 2) := dk_58 4 (dk_at dksX0_sync_0 16 rfl rfl)
theorem dX0_sync_18 : decode cX0_sync 18 = .ok (.iconst 2, 1) := dk_5 (dk_at dksX0_sync_0 18 rfl rfl)
theorem dX0_sync_19 : decode cX0_sync 19 = .ok (.ireturn, 1) := dk_172 (dk_at dksX0_sync_0 19 rfl rfl)
theorem dX0_sync_20 : decode cX0_sync 20 = .ok (.astore 4, 2) := dk_58 4 (dk_at dksX0_sync_0 20 rfl rfl)
theorem dX0_sync_22 : decode cX0_sync 22 = .ok (.iconst 3, 1) := dk_6 (dk_at dksX0_sync_0 22 rfl rfl)
theorem dX0_sync_23 : decode cX0_sync 23 = .ok (.ireturn, 1) := dk_172 (dk_at dksX0_sync_0 23 rfl rfl)
theorem dX0_sync_24 : decode cX0_sync 24 = .ok (.astore 4, 2) := dk_58 4 (dk_at dksX0_sync_1 0 rfl rfl)
theorem dX0_sync_26 : decode cX0_sync 26 = .ok (.iconst 4, 1) := dk_7 (dk_at dksX0_sync_1 2 rfl rfl)
theorem dX0_sync_27 : decode cX0_sync 27 = .ok (.ireturn, 1) := dk_172 (dk_at dksX0_sync_1 3 rfl rfl)
theorem dX0_sync_28 : decode cX0_sync 28 = .ok (.iconst 0, 1) := dk_3 (dk_at dksX0_sync_1 4 rfl rfl)
theorem dX0_sync_29 : decode cX0_sync 29 = .ok (.ireturn, 1) := dk_172 (dk_at dksX0_sync_1 5 rfl rfl)
abbrev cX0_date : ByteArray := method_37_code
def yX0_date : MethodName := ⟨RX0, "date", "(LLibraryDesk;III[J)I"⟩
def dkwX0_date_0 : List UInt8 := [25, 4, 3, 42, 27, 28, 29, 182, 0, 138, 133, 80, 167, 0, 7, 58, 5, 4, 172, 3, 172]
abbrev dktX0_date_0 : List UInt8 := dkwX0_date_0 ++ []
theorem dksX0_date_0 : cX0_date.data.toList.drop 0 = dktX0_date_0 := by decide +kernel
theorem dX0_date_0 : decode cX0_date 0 = .ok (.aload 4, 2) := dk_25 4 (dk_at dksX0_date_0 0 rfl rfl)
theorem dX0_date_2 : decode cX0_date 2 = .ok (.iconst 0, 1) := dk_3 (dk_at dksX0_date_0 2 rfl rfl)
theorem dX0_date_3 : decode cX0_date 3 = .ok (.aload_n 0, 1) := dk_42 (dk_at dksX0_date_0 3 rfl rfl)
theorem dX0_date_4 : decode cX0_date 4 = .ok (.iload_n 1, 1) := dk_27 (dk_at dksX0_date_0 4 rfl rfl)
theorem dX0_date_5 : decode cX0_date 5 = .ok (.iload_n 2, 1) := dk_28 (dk_at dksX0_date_0 5 rfl rfl)
theorem dX0_date_6 : decode cX0_date 6 = .ok (.iload_n 3, 1) := dk_29 (dk_at dksX0_date_0 6 rfl rfl)
theorem dX0_date_7 : decode cX0_date 7 = .ok (.invokevirtual 138, 3) := dk_182 0 138 (dk_at dksX0_date_0 7 rfl rfl)
theorem dX0_date_10 : decode cX0_date 10 = .ok (.i2l, 1) := dk_133 (dk_at dksX0_date_0 10 rfl rfl)
theorem dX0_date_11 : decode cX0_date 11 = .ok (.lastore, 1) := dk_80 (dk_at dksX0_date_0 11 rfl rfl)
theorem dX0_date_12 : decode cX0_date 12 = .ok (.goto 7, 3) := dk_167 0 7 (dk_at dksX0_date_0 12 rfl rfl)
theorem dX0_date_15 : decode cX0_date 15 = .ok (.astore 5, 2) := dk_58 5 (dk_at dksX0_date_0 15 rfl rfl)
theorem dX0_date_17 : decode cX0_date 17 = .ok (.iconst 1, 1) := dk_4 (dk_at dksX0_date_0 17 rfl rfl)
theorem dX0_date_18 : decode cX0_date 18 = .ok (.ireturn, 1) := dk_172 (dk_at dksX0_date_0 18 rfl rfl)
theorem dX0_date_19 : decode cX0_date 19 = .ok (.iconst 0, 1) := dk_3 (dk_at dksX0_date_0 19 rfl rfl)
theorem dX0_date_20 : decode cX0_date 20 = .ok (.ireturn, 1) := dk_172 (dk_at dksX0_date_0 20 rfl rfl)
abbrev cX0_part : ByteArray := method_38_code
def yX0_part : MethodName := ⟨RX0, "part", "(LLibraryDesk;II[J)I"⟩
def dkwX0_part_0 : List UInt8 := [45, 3, 42, 27, 28, 182, 0, 141, 133, 80, 167, 0, 7, 58, 4, 4, 172, 3, 172]
abbrev dktX0_part_0 : List UInt8 := dkwX0_part_0 ++ []
theorem dksX0_part_0 : cX0_part.data.toList.drop 0 = dktX0_part_0 := by decide +kernel
theorem dX0_part_0 : decode cX0_part 0 = .ok (.aload_n 3, 1) := dk_45 (dk_at dksX0_part_0 0 rfl rfl)
theorem dX0_part_1 : decode cX0_part 1 = .ok (.iconst 0, 1) := dk_3 (dk_at dksX0_part_0 1 rfl rfl)
theorem dX0_part_2 : decode cX0_part 2 = .ok (.aload_n 0, 1) := dk_42 (dk_at dksX0_part_0 2 rfl rfl)
theorem dX0_part_3 : decode cX0_part 3 = .ok (.iload_n 1, 1) := dk_27 (dk_at dksX0_part_0 3 rfl rfl)
theorem dX0_part_4 : decode cX0_part 4 = .ok (.iload_n 2, 1) := dk_28 (dk_at dksX0_part_0 4 rfl rfl)
theorem dX0_part_5 : decode cX0_part 5 = .ok (.invokevirtual 141, 3) := dk_182 0 141 (dk_at dksX0_part_0 5 rfl rfl)
theorem dX0_part_8 : decode cX0_part 8 = .ok (.i2l, 1) := dk_133 (dk_at dksX0_part_0 8 rfl rfl)
theorem dX0_part_9 : decode cX0_part 9 = .ok (.lastore, 1) := dk_80 (dk_at dksX0_part_0 9 rfl rfl)
theorem dX0_part_10 : decode cX0_part 10 = .ok (.goto 7, 3) := dk_167 0 7 (dk_at dksX0_part_0 10 rfl rfl)
theorem dX0_part_13 : decode cX0_part 13 = .ok (.astore 4, 2) := dk_58 4 (dk_at dksX0_part_0 13 rfl rfl)
theorem dX0_part_15 : decode cX0_part 15 = .ok (.iconst 1, 1) := dk_4 (dk_at dksX0_part_0 15 rfl rfl)
theorem dX0_part_16 : decode cX0_part 16 = .ok (.ireturn, 1) := dk_172 (dk_at dksX0_part_0 16 rfl rfl)
theorem dX0_part_17 : decode cX0_part 17 = .ok (.iconst 0, 1) := dk_3 (dk_at dksX0_part_0 17 rfl rfl)
theorem dX0_part_18 : decode cX0_part 18 = .ok (.ireturn, 1) := dk_172 (dk_at dksX0_part_0 18 rfl rfl)
abbrev cX0_plus : ByteArray := method_39_code
def yX0_plus : MethodName := ⟨RX0, "plus", "(LLibraryDesk;III[J)I"⟩
def dkwX0_plus_1 : List UInt8 := [172]
abbrev dktX0_plus_1 : List UInt8 := dkwX0_plus_1 ++ []
def dkwX0_plus_0 : List UInt8 := [25, 4, 3, 42, 27, 28, 29, 182, 0, 144, 133, 80, 167, 0, 11, 58, 5, 4, 172, 58, 5, 5, 172, 3]
abbrev dktX0_plus_0 : List UInt8 := dkwX0_plus_0 ++ dktX0_plus_1
theorem dksX0_plus_0 : cX0_plus.data.toList.drop 0 = dktX0_plus_0 := by decide +kernel
theorem dksX0_plus_1 : cX0_plus.data.toList.drop 24 = dktX0_plus_1 := dk_seg dksX0_plus_0 24 rfl rfl
theorem dX0_plus_0 : decode cX0_plus 0 = .ok (.aload 4, 2) := dk_25 4 (dk_at dksX0_plus_0 0 rfl rfl)
theorem dX0_plus_2 : decode cX0_plus 2 = .ok (.iconst 0, 1) := dk_3 (dk_at dksX0_plus_0 2 rfl rfl)
theorem dX0_plus_3 : decode cX0_plus 3 = .ok (.aload_n 0, 1) := dk_42 (dk_at dksX0_plus_0 3 rfl rfl)
theorem dX0_plus_4 : decode cX0_plus 4 = .ok (.iload_n 1, 1) := dk_27 (dk_at dksX0_plus_0 4 rfl rfl)
theorem dX0_plus_5 : decode cX0_plus 5 = .ok (.iload_n 2, 1) := dk_28 (dk_at dksX0_plus_0 5 rfl rfl)
theorem dX0_plus_6 : decode cX0_plus 6 = .ok (.iload_n 3, 1) := dk_29 (dk_at dksX0_plus_0 6 rfl rfl)
theorem dX0_plus_7 : decode cX0_plus 7 = .ok (.invokevirtual 144, 3) := dk_182 0 144 (dk_at dksX0_plus_0 7 rfl rfl)
theorem dX0_plus_10 : decode cX0_plus 10 = .ok (.i2l, 1) := dk_133 (dk_at dksX0_plus_0 10 rfl rfl)
theorem dX0_plus_11 : decode cX0_plus 11 = .ok (.lastore, 1) := dk_80 (dk_at dksX0_plus_0 11 rfl rfl)
theorem dX0_plus_12 : decode cX0_plus 12 = .ok (.goto 11, 3) := dk_167 0 11 (dk_at dksX0_plus_0 12 rfl rfl)
theorem dX0_plus_15 : decode cX0_plus 15 = .ok (.astore 5, 2) := dk_58 5 (dk_at dksX0_plus_0 15 rfl rfl)
theorem dX0_plus_17 : decode cX0_plus 17 = .ok (.iconst 1, 1) := dk_4 (dk_at dksX0_plus_0 17 rfl rfl)
theorem dX0_plus_18 : decode cX0_plus 18 = .ok (.ireturn, 1) := dk_172 (dk_at dksX0_plus_0 18 rfl rfl)
theorem dX0_plus_19 : decode cX0_plus 19 = .ok (.astore 5, 2) := dk_58 5 (dk_at dksX0_plus_0 19 rfl rfl)
theorem dX0_plus_21 : decode cX0_plus 21 = .ok (.iconst 2, 1) := dk_5 (dk_at dksX0_plus_0 21 rfl rfl)
theorem dX0_plus_22 : decode cX0_plus 22 = .ok (.ireturn, 1) := dk_172 (dk_at dksX0_plus_0 22 rfl rfl)
theorem dX0_plus_23 : decode cX0_plus 23 = .ok (.iconst 0, 1) := dk_3 (dk_at dksX0_plus_0 23 rfl rfl)
theorem dX0_plus_24 : decode cX0_plus 24 = .ok (.ireturn, 1) := dk_172 (dk_at dksX0_plus_1 0 rfl rfl)
abbrev cX0_between : ByteArray := method_40_code
def yX0_between : MethodName := ⟨RX0, "between", "(LLibraryDesk;III[J)I"⟩
def dkwX0_between_0 : List UInt8 := [25, 4, 3, 42, 27, 28, 29, 182, 0, 147, 133, 80, 167, 0, 7, 58, 5, 4, 172, 3, 172]
abbrev dktX0_between_0 : List UInt8 := dkwX0_between_0 ++ []
theorem dksX0_between_0 : cX0_between.data.toList.drop 0 = dktX0_between_0 := by decide +kernel
theorem dX0_between_0 : decode cX0_between 0 = .ok (.aload 4, 2) := dk_25 4 (dk_at dksX0_between_0 0 rfl rfl)
theorem dX0_between_2 : decode cX0_between 2 = .ok (.iconst 0, 1) := dk_3 (dk_at dksX0_between_0 2 rfl rfl)
theorem dX0_between_3 : decode cX0_between 3 = .ok (.aload_n 0, 1) := dk_42 (dk_at dksX0_between_0 3 rfl rfl)
theorem dX0_between_4 : decode cX0_between 4 = .ok (.iload_n 1, 1) := dk_27 (dk_at dksX0_between_0 4 rfl rfl)
theorem dX0_between_5 : decode cX0_between 5 = .ok (.iload_n 2, 1) := dk_28 (dk_at dksX0_between_0 5 rfl rfl)
theorem dX0_between_6 : decode cX0_between 6 = .ok (.iload_n 3, 1) := dk_29 (dk_at dksX0_between_0 6 rfl rfl)
theorem dX0_between_7 : decode cX0_between 7 = .ok (.invokevirtual 147, 3) := dk_182 0 147 (dk_at dksX0_between_0 7 rfl rfl)
theorem dX0_between_10 : decode cX0_between 10 = .ok (.i2l, 1) := dk_133 (dk_at dksX0_between_0 10 rfl rfl)
theorem dX0_between_11 : decode cX0_between 11 = .ok (.lastore, 1) := dk_80 (dk_at dksX0_between_0 11 rfl rfl)
theorem dX0_between_12 : decode cX0_between 12 = .ok (.goto 7, 3) := dk_167 0 7 (dk_at dksX0_between_0 12 rfl rfl)
theorem dX0_between_15 : decode cX0_between 15 = .ok (.astore 5, 2) := dk_58 5 (dk_at dksX0_between_0 15 rfl rfl)
theorem dX0_between_17 : decode cX0_between 17 = .ok (.iconst 1, 1) := dk_4 (dk_at dksX0_between_0 17 rfl rfl)
theorem dX0_between_18 : decode cX0_between 18 = .ok (.ireturn, 1) := dk_172 (dk_at dksX0_between_0 18 rfl rfl)
theorem dX0_between_19 : decode cX0_between 19 = .ok (.iconst 0, 1) := dk_3 (dk_at dksX0_between_0 19 rfl rfl)
theorem dX0_between_20 : decode cX0_between 20 = .ok (.ireturn, 1) := dk_172 (dk_at dksX0_between_0 20 rfl rfl)
abbrev cX0_word : ByteArray := method_41_code
def yX0_word : MethodName := ⟨RX0, "word", "(LLibraryDesk;I[J)I"⟩
def dkwX0_word_0 : List UInt8 := [44, 3, 42, 27, 182, 0, 150, 80, 167, 0, 6, 78, 4, 172, 3, 172]
abbrev dktX0_word_0 : List UInt8 := dkwX0_word_0 ++ []
theorem dksX0_word_0 : cX0_word.data.toList.drop 0 = dktX0_word_0 := by decide +kernel
theorem dX0_word_0 : decode cX0_word 0 = .ok (.aload_n 2, 1) := dk_44 (dk_at dksX0_word_0 0 rfl rfl)
theorem dX0_word_1 : decode cX0_word 1 = .ok (.iconst 0, 1) := dk_3 (dk_at dksX0_word_0 1 rfl rfl)
theorem dX0_word_2 : decode cX0_word 2 = .ok (.aload_n 0, 1) := dk_42 (dk_at dksX0_word_0 2 rfl rfl)
theorem dX0_word_3 : decode cX0_word 3 = .ok (.iload_n 1, 1) := dk_27 (dk_at dksX0_word_0 3 rfl rfl)
theorem dX0_word_4 : decode cX0_word 4 = .ok (.invokevirtual 150, 3) := dk_182 0 150 (dk_at dksX0_word_0 4 rfl rfl)
theorem dX0_word_7 : decode cX0_word 7 = .ok (.lastore, 1) := dk_80 (dk_at dksX0_word_0 7 rfl rfl)
theorem dX0_word_8 : decode cX0_word 8 = .ok (.goto 6, 3) := dk_167 0 6 (dk_at dksX0_word_0 8 rfl rfl)
theorem dX0_word_11 : decode cX0_word 11 = .ok (.astore_n 3, 1) := dk_78 (dk_at dksX0_word_0 11 rfl rfl)
theorem dX0_word_12 : decode cX0_word 12 = .ok (.iconst 1, 1) := dk_4 (dk_at dksX0_word_0 12 rfl rfl)
theorem dX0_word_13 : decode cX0_word 13 = .ok (.ireturn, 1) := dk_172 (dk_at dksX0_word_0 13 rfl rfl)
theorem dX0_word_14 : decode cX0_word 14 = .ok (.iconst 0, 1) := dk_3 (dk_at dksX0_word_0 14 rfl rfl)
theorem dX0_word_15 : decode cX0_word 15 = .ok (.ireturn, 1) := dk_172 (dk_at dksX0_word_0 15 rfl rfl)
abbrev cX0_count : ByteArray := method_42_code
def yX0_count : MethodName := ⟨RX0, "count", "(LLibraryDesk;I[J)I"⟩
def dkwX0_count_0 : List UInt8 := [44, 3, 42, 27, 182, 0, 154, 80, 167, 0, 6, 78, 4, 172, 3, 172]
abbrev dktX0_count_0 : List UInt8 := dkwX0_count_0 ++ []
theorem dksX0_count_0 : cX0_count.data.toList.drop 0 = dktX0_count_0 := by decide +kernel
theorem dX0_count_0 : decode cX0_count 0 = .ok (.aload_n 2, 1) := dk_44 (dk_at dksX0_count_0 0 rfl rfl)
theorem dX0_count_1 : decode cX0_count 1 = .ok (.iconst 0, 1) := dk_3 (dk_at dksX0_count_0 1 rfl rfl)
theorem dX0_count_2 : decode cX0_count 2 = .ok (.aload_n 0, 1) := dk_42 (dk_at dksX0_count_0 2 rfl rfl)
theorem dX0_count_3 : decode cX0_count 3 = .ok (.iload_n 1, 1) := dk_27 (dk_at dksX0_count_0 3 rfl rfl)
theorem dX0_count_4 : decode cX0_count 4 = .ok (.invokevirtual 154, 3) := dk_182 0 154 (dk_at dksX0_count_0 4 rfl rfl)
theorem dX0_count_7 : decode cX0_count 7 = .ok (.lastore, 1) := dk_80 (dk_at dksX0_count_0 7 rfl rfl)
theorem dX0_count_8 : decode cX0_count 8 = .ok (.goto 6, 3) := dk_167 0 6 (dk_at dksX0_count_0 8 rfl rfl)
theorem dX0_count_11 : decode cX0_count 11 = .ok (.astore_n 3, 1) := dk_78 (dk_at dksX0_count_0 11 rfl rfl)
theorem dX0_count_12 : decode cX0_count 12 = .ok (.iconst 1, 1) := dk_4 (dk_at dksX0_count_0 12 rfl rfl)
theorem dX0_count_13 : decode cX0_count 13 = .ok (.ireturn, 1) := dk_172 (dk_at dksX0_count_0 13 rfl rfl)
theorem dX0_count_14 : decode cX0_count 14 = .ok (.iconst 0, 1) := dk_3 (dk_at dksX0_count_0 14 rfl rfl)
theorem dX0_count_15 : decode cX0_count 15 = .ok (.ireturn, 1) := dk_172 (dk_at dksX0_count_0 15 rfl rfl)
theorem q507 : (Jvm.Cond.initialized "LibraryDeskLaw") ∈ lw_all := lw_g (lw_at lw_m1 0 rfl) rfl
theorem q570 : (Jvm.Cond.classLink "LibraryDeskLaw" (8 : Nat) "LibraryDesk") ∈ lw_all := lw_g (lw_at lw_m1 63 rfl) rfl
theorem q572 : (Jvm.Cond.methodLink "LibraryDeskLaw" (157 : Nat) ({ cls := "LibraryDesk", name := "<init>", desc := "()V" } : Jvm.MethodName)) ∈ lw_all := lw_g (lw_at lw_m1 65 rfl) rfl
theorem q1130 : (Jvm.Cond.methodLink "LibraryDeskLaw" (274 : Nat) ({ cls := "LibraryDesk", name := "dead", desc := "()I" } : Jvm.MethodName)) ∈ lw_all := lw_g (lw_at lw_m3 143 rfl) rfl
theorem q1154 : (Jvm.Cond.methodLink "LibraryDeskLaw" (161 : Nat) ({ cls := "LibraryDeskLaw", name := "feed", desc := "(LLibraryDesk;IIIII[J)I" } : Jvm.MethodName)) ∈ lw_all := lw_g (lw_at lw_m3 167 rfl) rfl
theorem q1155 : (Jvm.Cond.static ({ cls := "LibraryDeskLaw", name := "feed", desc := "(LLibraryDesk;IIIII[J)I" } : Jvm.MethodName)) ∈ lw_all := lw_g (lw_at lw_m3 168 rfl) rfl
theorem q1156 : (Jvm.Cond.codeWith ({ cls := "LibraryDeskLaw", name := "feed", desc := "(LLibraryDesk;IIIII[J)I" } : Jvm.MethodName) method_3_code (8 : Nat) (Option.some Jvm.ClassFile.FieldType.int) [((0 : Nat), (16 : Nat), (19 : Nat), (13 : Nat))]) ∈ lw_all := lw_g (lw_at lw_m3 169 rfl) rfl
theorem q1157 : (Jvm.Cond.classLink "LibraryDeskLaw" (13 : Nat) "java/lang/IndexOutOfBoundsException") ∈ lw_all := lw_g (lw_at lw_m3 170 rfl) rfl
theorem q1241 : (Jvm.Cond.methodLink "LibraryDeskLaw" (7 : Nat) ({ cls := "LibraryDesk", name := "feed", desc := "(IIIII)I" } : Jvm.MethodName)) ∈ lw_all := lw_g (lw_at lw_m4 14 rfl) rfl
theorem q1273 : (Jvm.Cond.methodLink "LibraryDeskLaw" (170 : Nat) ({ cls := "LibraryDeskLaw", name := "end", desc := "(LLibraryDesk;I[J)I" } : Jvm.MethodName)) ∈ lw_all := lw_g (lw_at lw_m4 46 rfl) rfl
theorem q1274 : (Jvm.Cond.static ({ cls := "LibraryDeskLaw", name := "end", desc := "(LLibraryDesk;I[J)I" } : Jvm.MethodName)) ∈ lw_all := lw_g (lw_at lw_m4 47 rfl) rfl
theorem q1275 : (Jvm.Cond.codeWith ({ cls := "LibraryDeskLaw", name := "end", desc := "(LLibraryDesk;I[J)I" } : Jvm.MethodName) method_4_code (4 : Nat) (Option.some Jvm.ClassFile.FieldType.int) [((0 : Nat), (9 : Nat), (12 : Nat), (19 : Nat))]) ∈ lw_all := lw_g (lw_at lw_m4 48 rfl) rfl
theorem q1276 : (Jvm.Cond.classLink "LibraryDeskLaw" (19 : Nat) "java/lang/IllegalArgumentException") ∈ lw_all := lw_g (lw_at lw_m4 49 rfl) rfl
theorem q1277 : (Jvm.Cond.methodLink "LibraryDeskLaw" (15 : Nat) ({ cls := "LibraryDesk", name := "end", desc := "(I)I" } : Jvm.MethodName)) ∈ lw_all := lw_g (lw_at lw_m4 50 rfl) rfl
theorem q1299 : (Jvm.Cond.methodLink "LibraryDeskLaw" (174 : Nat) ({ cls := "LibraryDeskLaw", name := "make", desc := "(LLibraryDesk;III[J)I" } : Jvm.MethodName)) ∈ lw_all := lw_g (lw_at lw_m4 72 rfl) rfl
theorem q1300 : (Jvm.Cond.static ({ cls := "LibraryDeskLaw", name := "make", desc := "(LLibraryDesk;III[J)I" } : Jvm.MethodName)) ∈ lw_all := lw_g (lw_at lw_m4 73 rfl) rfl
theorem q1301 : (Jvm.Cond.codeWith ({ cls := "LibraryDeskLaw", name := "make", desc := "(LLibraryDesk;III[J)I" } : Jvm.MethodName) method_5_code (6 : Nat) (Option.some Jvm.ClassFile.FieldType.int) [((0 : Nat), (12 : Nat), (15 : Nat), (19 : Nat)), ((0 : Nat), (12 : Nat), (19 : Nat), (25 : Nat)), ((0 : Nat), (12 : Nat), (23 : Nat), (27 : Nat))]) ∈ lw_all := lw_g (lw_at lw_m4 74 rfl) rfl
theorem q1302 : (Jvm.Cond.classLink "LibraryDeskLaw" (25 : Nat) "java/lang/IllegalStateException") ∈ lw_all := lw_g (lw_at lw_m4 75 rfl) rfl
theorem q1303 : (Jvm.Cond.classLink "LibraryDeskLaw" (27 : Nat) "java/lang/NegativeArraySizeException") ∈ lw_all := lw_g (lw_at lw_m4 76 rfl) rfl
theorem q1317 : (Jvm.Cond.methodLink "LibraryDeskLaw" (21 : Nat) ({ cls := "LibraryDesk", name := "make", desc := "(III)I" } : Jvm.MethodName)) ∈ lw_all := lw_g (lw_at lw_m4 90 rfl) rfl
theorem q1933 : (Jvm.Cond.methodLink "LibraryDeskLaw" (178 : Nat) ({ cls := "LibraryDeskLaw", name := "drop", desc := "(LLibraryDesk;I[J)I" } : Jvm.MethodName)) ∈ lw_all := lw_g (lw_at lw_m6 226 rfl) rfl
theorem q1934 : (Jvm.Cond.static ({ cls := "LibraryDeskLaw", name := "drop", desc := "(LLibraryDesk;I[J)I" } : Jvm.MethodName)) ∈ lw_all := lw_g (lw_at lw_m6 227 rfl) rfl
theorem q1935 : (Jvm.Cond.codeWith ({ cls := "LibraryDeskLaw", name := "drop", desc := "(LLibraryDesk;I[J)I" } : Jvm.MethodName) method_6_code (4 : Nat) (Option.some Jvm.ClassFile.FieldType.int) [((0 : Nat), (9 : Nat), (12 : Nat), (32 : Nat)), ((0 : Nat), (9 : Nat), (15 : Nat), (25 : Nat))]) ∈ lw_all := lw_g (lw_at lw_m6 228 rfl) rfl
theorem q1936 : (Jvm.Cond.classLink "LibraryDeskLaw" (32 : Nat) "java/util/NoSuchElementException") ∈ lw_all := lw_g (lw_at lw_m6 229 rfl) rfl
theorem q1937 : (Jvm.Cond.methodLink "LibraryDeskLaw" (29 : Nat) ({ cls := "LibraryDesk", name := "drop", desc := "(I)I" } : Jvm.MethodName)) ∈ lw_all := lw_g (lw_at lw_m6 230 rfl) rfl
theorem q1967 : (Jvm.Cond.methodLink "LibraryDeskLaw" (181 : Nat) ({ cls := "LibraryDeskLaw", name := "list", desc := "(LLibraryDesk;IIII[J)I" } : Jvm.MethodName)) ∈ lw_all := lw_g (lw_at lw_m7 20 rfl) rfl
theorem q1968 : (Jvm.Cond.static ({ cls := "LibraryDeskLaw", name := "list", desc := "(LLibraryDesk;IIII[J)I" } : Jvm.MethodName)) ∈ lw_all := lw_g (lw_at lw_m7 21 rfl) rfl
theorem q1969 : (Jvm.Cond.codeWith ({ cls := "LibraryDeskLaw", name := "list", desc := "(LLibraryDesk;IIII[J)I" } : Jvm.MethodName) method_7_code (7 : Nat) (Option.some Jvm.ClassFile.FieldType.int) [((0 : Nat), (13 : Nat), (16 : Nat), (32 : Nat)), ((0 : Nat), (13 : Nat), (20 : Nat), (38 : Nat)), ((0 : Nat), (13 : Nat), (24 : Nat), (19 : Nat)), ((0 : Nat), (13 : Nat), (28 : Nat), (25 : Nat)), ((0 : Nat), (13 : Nat), (32 : Nat), (40 : Nat)), ((0 : Nat), (13 : Nat), (36 : Nat), (13 : Nat))]) ∈ lw_all := lw_g (lw_at lw_m7 22 rfl) rfl
theorem q1970 : (Jvm.Cond.classLink "LibraryDeskLaw" (38 : Nat) "java/lang/ClassCastException") ∈ lw_all := lw_g (lw_at lw_m7 23 rfl) rfl
theorem q1984 : (Jvm.Cond.classLink "LibraryDeskLaw" (40 : Nat) "java/lang/UnsupportedOperationException") ∈ lw_all := lw_g (lw_at lw_m7 37 rfl) rfl
theorem q1985 : (Jvm.Cond.methodLink "LibraryDeskLaw" (34 : Nat) ({ cls := "LibraryDesk", name := "list", desc := "(IIII)J" } : Jvm.MethodName)) ∈ lw_all := lw_g (lw_at lw_m7 38 rfl) rfl
theorem q2242 : (Jvm.Cond.methodLink "LibraryDeskLaw" (185 : Nat) ({ cls := "LibraryDeskLaw", name := "ring", desc := "(LLibraryDesk;III[J)I" } : Jvm.MethodName)) ∈ lw_all := lw_g (lw_at lw_m8 55 rfl) rfl
theorem q2243 : (Jvm.Cond.static ({ cls := "LibraryDeskLaw", name := "ring", desc := "(LLibraryDesk;III[J)I" } : Jvm.MethodName)) ∈ lw_all := lw_g (lw_at lw_m8 56 rfl) rfl
theorem q2244 : (Jvm.Cond.codeWith ({ cls := "LibraryDeskLaw", name := "ring", desc := "(LLibraryDesk;III[J)I" } : Jvm.MethodName) method_8_code (6 : Nat) (Option.some Jvm.ClassFile.FieldType.int) [((0 : Nat), (11 : Nat), (14 : Nat), (32 : Nat)), ((0 : Nat), (11 : Nat), (18 : Nat), (38 : Nat)), ((0 : Nat), (11 : Nat), (22 : Nat), (19 : Nat)), ((0 : Nat), (11 : Nat), (26 : Nat), (25 : Nat)), ((0 : Nat), (11 : Nat), (30 : Nat), (13 : Nat))]) ∈ lw_all := lw_g (lw_at lw_m8 57 rfl) rfl
theorem q2245 : (Jvm.Cond.methodLink "LibraryDeskLaw" (42 : Nat) ({ cls := "LibraryDesk", name := "ring", desc := "(III)J" } : Jvm.MethodName)) ∈ lw_all := lw_g (lw_at lw_m8 58 rfl) rfl
theorem q2301 : (Jvm.Cond.methodLink "LibraryDeskLaw" (188 : Nat) ({ cls := "LibraryDeskLaw", name := "map", desc := "(LLibraryDesk;IIII[J)I" } : Jvm.MethodName)) ∈ lw_all := lw_g (lw_at lw_m8 114 rfl) rfl
theorem q2302 : (Jvm.Cond.static ({ cls := "LibraryDeskLaw", name := "map", desc := "(LLibraryDesk;IIII[J)I" } : Jvm.MethodName)) ∈ lw_all := lw_g (lw_at lw_m8 115 rfl) rfl
theorem q2303 : (Jvm.Cond.codeWith ({ cls := "LibraryDeskLaw", name := "map", desc := "(LLibraryDesk;IIII[J)I" } : Jvm.MethodName) method_9_code (7 : Nat) (Option.some Jvm.ClassFile.FieldType.int) [((0 : Nat), (13 : Nat), (16 : Nat), (32 : Nat)), ((0 : Nat), (13 : Nat), (20 : Nat), (38 : Nat)), ((0 : Nat), (13 : Nat), (24 : Nat), (19 : Nat)), ((0 : Nat), (13 : Nat), (28 : Nat), (25 : Nat)), ((0 : Nat), (13 : Nat), (32 : Nat), (40 : Nat))]) ∈ lw_all := lw_g (lw_at lw_m8 116 rfl) rfl
theorem q2304 : (Jvm.Cond.methodLink "LibraryDeskLaw" (46 : Nat) ({ cls := "LibraryDesk", name := "map", desc := "(IIII)J" } : Jvm.MethodName)) ∈ lw_all := lw_g (lw_at lw_m8 117 rfl) rfl
theorem q2785 : (Jvm.Cond.methodLink "LibraryDeskLaw" (191 : Nat) ({ cls := "LibraryDeskLaw", name := "view", desc := "(LLibraryDesk;IIII[J)I" } : Jvm.MethodName)) ∈ lw_all := lw_g (lw_at lw_m10 118 rfl) rfl
theorem q2786 : (Jvm.Cond.static ({ cls := "LibraryDeskLaw", name := "view", desc := "(LLibraryDesk;IIII[J)I" } : Jvm.MethodName)) ∈ lw_all := lw_g (lw_at lw_m10 119 rfl) rfl
theorem q2787 : (Jvm.Cond.codeWith ({ cls := "LibraryDeskLaw", name := "view", desc := "(LLibraryDesk;IIII[J)I" } : Jvm.MethodName) method_10_code (7 : Nat) (Option.some Jvm.ClassFile.FieldType.int) [((0 : Nat), (14 : Nat), (17 : Nat), (32 : Nat)), ((0 : Nat), (14 : Nat), (21 : Nat), (38 : Nat)), ((0 : Nat), (14 : Nat), (25 : Nat), (19 : Nat)), ((0 : Nat), (14 : Nat), (29 : Nat), (25 : Nat)), ((0 : Nat), (14 : Nat), (33 : Nat), (13 : Nat))]) ∈ lw_all := lw_g (lw_at lw_m10 120 rfl) rfl
theorem q2788 : (Jvm.Cond.methodLink "LibraryDeskLaw" (49 : Nat) ({ cls := "LibraryDesk", name := "view", desc := "(IIII)I" } : Jvm.MethodName)) ∈ lw_all := lw_g (lw_at lw_m10 121 rfl) rfl
theorem q2821 : (Jvm.Cond.methodLink "LibraryDeskLaw" (194 : Nat) ({ cls := "LibraryDeskLaw", name := "curso\x72", desc := "(LLibraryDesk;I[J)I" } : Jvm.MethodName)) ∈ lw_all := lw_g (lw_at lw_m10 154 rfl) rfl
theorem q2822 : (Jvm.Cond.static ({ cls := "LibraryDeskLaw", name := "curso\x72", desc := "(LLibraryDesk;I[J)I" } : Jvm.MethodName)) ∈ lw_all := lw_g (lw_at lw_m10 155 rfl) rfl
theorem q2823 : (Jvm.Cond.codeWith ({ cls := "LibraryDeskLaw", name := "curso\x72", desc := "(LLibraryDesk;I[J)I" } : Jvm.MethodName) method_11_code (4 : Nat) (Option.some Jvm.ClassFile.FieldType.int) [((0 : Nat), (9 : Nat), (12 : Nat), (32 : Nat)), ((0 : Nat), (9 : Nat), (15 : Nat), (38 : Nat)), ((0 : Nat), (9 : Nat), (18 : Nat), (25 : Nat))]) ∈ lw_all := lw_g (lw_at lw_m10 156 rfl) rfl
theorem q2824 : (Jvm.Cond.methodLink "LibraryDeskLaw" (53 : Nat) ({ cls := "LibraryDesk", name := "curso\x72", desc := "(I)I" } : Jvm.MethodName)) ∈ lw_all := lw_g (lw_at lw_m10 157 rfl) rfl
theorem q2855 : (Jvm.Cond.methodLink "LibraryDeskLaw" (197 : Nat) ({ cls := "LibraryDeskLaw", name := "move", desc := "(LLibraryDesk;III[J)I" } : Jvm.MethodName)) ∈ lw_all := lw_g (lw_at lw_m10 188 rfl) rfl
theorem q2856 : (Jvm.Cond.static ({ cls := "LibraryDeskLaw", name := "move", desc := "(LLibraryDesk;III[J)I" } : Jvm.MethodName)) ∈ lw_all := lw_g (lw_at lw_m10 189 rfl) rfl
theorem q2857 : (Jvm.Cond.codeWith ({ cls := "LibraryDeskLaw", name := "move", desc := "(LLibraryDesk;III[J)I" } : Jvm.MethodName) method_12_code (6 : Nat) (Option.some Jvm.ClassFile.FieldType.int) [((0 : Nat), (11 : Nat), (14 : Nat), (32 : Nat)), ((0 : Nat), (11 : Nat), (18 : Nat), (38 : Nat)), ((0 : Nat), (11 : Nat), (22 : Nat), (19 : Nat)), ((0 : Nat), (11 : Nat), (26 : Nat), (25 : Nat)), ((0 : Nat), (11 : Nat), (30 : Nat), (40 : Nat))]) ∈ lw_all := lw_g (lw_at lw_m10 190 rfl) rfl
theorem q2858 : (Jvm.Cond.methodLink "LibraryDeskLaw" (56 : Nat) ({ cls := "LibraryDesk", name := "move", desc := "(III)J" } : Jvm.MethodName)) ∈ lw_all := lw_g (lw_at lw_m10 191 rfl) rfl
theorem q2896 : (Jvm.Cond.methodLink "LibraryDeskLaw" (200 : Nat) ({ cls := "LibraryDeskLaw", name := "heap", desc := "(LLibraryDesk;III[J)I" } : Jvm.MethodName)) ∈ lw_all := lw_g (lw_at lw_m10 229 rfl) rfl
theorem q2897 : (Jvm.Cond.static ({ cls := "LibraryDeskLaw", name := "heap", desc := "(LLibraryDesk;III[J)I" } : Jvm.MethodName)) ∈ lw_all := lw_g (lw_at lw_m10 230 rfl) rfl
theorem q2898 : (Jvm.Cond.codeWith ({ cls := "LibraryDeskLaw", name := "heap", desc := "(LLibraryDesk;III[J)I" } : Jvm.MethodName) method_13_code (6 : Nat) (Option.some Jvm.ClassFile.FieldType.int) [((0 : Nat), (11 : Nat), (14 : Nat), (32 : Nat)), ((0 : Nat), (11 : Nat), (18 : Nat), (38 : Nat)), ((0 : Nat), (11 : Nat), (22 : Nat), (19 : Nat)), ((0 : Nat), (11 : Nat), (26 : Nat), (25 : Nat))]) ∈ lw_all := lw_g (lw_at lw_m10 231 rfl) rfl
theorem q2899 : (Jvm.Cond.methodLink "LibraryDeskLaw" (59 : Nat) ({ cls := "LibraryDesk", name := "heap", desc := "(III)J" } : Jvm.MethodName)) ∈ lw_all := lw_g (lw_at lw_m10 232 rfl) rfl
theorem q2952 : (Jvm.Cond.methodLink "LibraryDeskLaw" (203 : Nat) ({ cls := "LibraryDeskLaw", name := "bits", desc := "(LLibraryDesk;IIII[J)I" } : Jvm.MethodName)) ∈ lw_all := lw_g (lw_at lw_m11 45 rfl) rfl
theorem q2953 : (Jvm.Cond.static ({ cls := "LibraryDeskLaw", name := "bits", desc := "(LLibraryDesk;IIII[J)I" } : Jvm.MethodName)) ∈ lw_all := lw_g (lw_at lw_m11 46 rfl) rfl
theorem q2954 : (Jvm.Cond.codeWith ({ cls := "LibraryDeskLaw", name := "bits", desc := "(LLibraryDesk;IIII[J)I" } : Jvm.MethodName) method_14_code (7 : Nat) (Option.some Jvm.ClassFile.FieldType.int) [((0 : Nat), (13 : Nat), (16 : Nat), (32 : Nat)), ((0 : Nat), (13 : Nat), (20 : Nat), (38 : Nat)), ((0 : Nat), (13 : Nat), (24 : Nat), (19 : Nat)), ((0 : Nat), (13 : Nat), (28 : Nat), (13 : Nat))]) ∈ lw_all := lw_g (lw_at lw_m11 47 rfl) rfl
theorem q2955 : (Jvm.Cond.methodLink "LibraryDeskLaw" (62 : Nat) ({ cls := "LibraryDesk", name := "bits", desc := "(IIII)J" } : Jvm.MethodName)) ∈ lw_all := lw_g (lw_at lw_m11 48 rfl) rfl
theorem q3004 : (Jvm.Cond.methodLink "LibraryDeskLaw" (206 : Nat) ({ cls := "LibraryDeskLaw", name := "item", desc := "(LLibraryDesk;III[J)I" } : Jvm.MethodName)) ∈ lw_all := lw_g (lw_at lw_m11 97 rfl) rfl
theorem q3005 : (Jvm.Cond.static ({ cls := "LibraryDeskLaw", name := "item", desc := "(LLibraryDesk;III[J)I" } : Jvm.MethodName)) ∈ lw_all := lw_g (lw_at lw_m11 98 rfl) rfl
theorem q3006 : (Jvm.Cond.codeWith ({ cls := "LibraryDeskLaw", name := "item", desc := "(LLibraryDesk;III[J)I" } : Jvm.MethodName) method_15_code (6 : Nat) (Option.some Jvm.ClassFile.FieldType.int) [((0 : Nat), (11 : Nat), (14 : Nat), (32 : Nat)), ((0 : Nat), (11 : Nat), (18 : Nat), (38 : Nat)), ((0 : Nat), (11 : Nat), (22 : Nat), (19 : Nat)), ((0 : Nat), (11 : Nat), (26 : Nat), (25 : Nat)), ((0 : Nat), (11 : Nat), (30 : Nat), (13 : Nat))]) ∈ lw_all := lw_g (lw_at lw_m11 99 rfl) rfl
theorem q3007 : (Jvm.Cond.methodLink "LibraryDeskLaw" (65 : Nat) ({ cls := "LibraryDesk", name := "item", desc := "(III)J" } : Jvm.MethodName)) ∈ lw_all := lw_g (lw_at lw_m11 100 rfl) rfl
theorem q3012 : (Jvm.Cond.methodLink "LibraryDeskLaw" (209 : Nat) ({ cls := "LibraryDeskLaw", name := "text", desc := "(LLibraryDesk;IIII[J)I" } : Jvm.MethodName)) ∈ lw_all := lw_g (lw_at lw_m11 105 rfl) rfl
theorem q3013 : (Jvm.Cond.static ({ cls := "LibraryDeskLaw", name := "text", desc := "(LLibraryDesk;IIII[J)I" } : Jvm.MethodName)) ∈ lw_all := lw_g (lw_at lw_m11 106 rfl) rfl
theorem q3014 : (Jvm.Cond.codeWith ({ cls := "LibraryDeskLaw", name := "text", desc := "(LLibraryDesk;IIII[J)I" } : Jvm.MethodName) method_16_code (7 : Nat) (Option.some Jvm.ClassFile.FieldType.int) [((0 : Nat), (14 : Nat), (17 : Nat), (32 : Nat)), ((0 : Nat), (14 : Nat), (21 : Nat), (38 : Nat)), ((0 : Nat), (14 : Nat), (25 : Nat), (19 : Nat)), ((0 : Nat), (14 : Nat), (29 : Nat), (25 : Nat)), ((0 : Nat), (14 : Nat), (33 : Nat), (40 : Nat)), ((0 : Nat), (14 : Nat), (37 : Nat), (13 : Nat))]) ∈ lw_all := lw_g (lw_at lw_m11 107 rfl) rfl
theorem q3015 : (Jvm.Cond.methodLink "LibraryDeskLaw" (68 : Nat) ({ cls := "LibraryDesk", name := "text", desc := "(IIII)I" } : Jvm.MethodName)) ∈ lw_all := lw_g (lw_at lw_m11 108 rfl) rfl
theorem q3156 : (Jvm.Cond.methodLink "LibraryDeskLaw" (212 : Nat) ({ cls := "LibraryDeskLaw", name := "pattern", desc := "(LLibraryDesk;[J)I" } : Jvm.MethodName)) ∈ lw_all := lw_g (lw_at lw_m12 9 rfl) rfl
theorem q3157 : (Jvm.Cond.static ({ cls := "LibraryDeskLaw", name := "pattern", desc := "(LLibraryDesk;[J)I" } : Jvm.MethodName)) ∈ lw_all := lw_g (lw_at lw_m12 10 rfl) rfl
theorem q3158 : (Jvm.Cond.codeWith ({ cls := "LibraryDeskLaw", name := "pattern", desc := "(LLibraryDesk;[J)I" } : Jvm.MethodName) method_17_code (3 : Nat) (Option.some Jvm.ClassFile.FieldType.int) [((0 : Nat), (8 : Nat), (11 : Nat), (25 : Nat)), ((0 : Nat), (8 : Nat), (14 : Nat), (40 : Nat)), ((0 : Nat), (8 : Nat), (17 : Nat), (13 : Nat))]) ∈ lw_all := lw_g (lw_at lw_m12 11 rfl) rfl
theorem q3159 : (Jvm.Cond.methodLink "LibraryDeskLaw" (71 : Nat) ({ cls := "LibraryDesk", name := "pattern", desc := "()I" } : Jvm.MethodName)) ∈ lw_all := lw_g (lw_at lw_m12 12 rfl) rfl
theorem q3321 : (Jvm.Cond.methodLink "LibraryDeskLaw" (216 : Nat) ({ cls := "LibraryDeskLaw", name := "match", desc := "(LLibraryDesk;IIII[J)I" } : Jvm.MethodName)) ∈ lw_all := lw_g (lw_at lw_m12 174 rfl) rfl
theorem q3322 : (Jvm.Cond.static ({ cls := "LibraryDeskLaw", name := "match", desc := "(LLibraryDesk;IIII[J)I" } : Jvm.MethodName)) ∈ lw_all := lw_g (lw_at lw_m12 175 rfl) rfl
theorem q3323 : (Jvm.Cond.codeWith ({ cls := "LibraryDeskLaw", name := "match", desc := "(LLibraryDesk;IIII[J)I" } : Jvm.MethodName) method_18_code (7 : Nat) (Option.some Jvm.ClassFile.FieldType.int) [((0 : Nat), (14 : Nat), (17 : Nat), (32 : Nat)), ((0 : Nat), (14 : Nat), (21 : Nat), (38 : Nat)), ((0 : Nat), (14 : Nat), (25 : Nat), (19 : Nat)), ((0 : Nat), (14 : Nat), (29 : Nat), (13 : Nat))]) ∈ lw_all := lw_g (lw_at lw_m12 176 rfl) rfl
theorem q3324 : (Jvm.Cond.methodLink "LibraryDeskLaw" (75 : Nat) ({ cls := "LibraryDesk", name := "match", desc := "(IIII)I" } : Jvm.MethodName)) ∈ lw_all := lw_g (lw_at lw_m12 177 rfl) rfl
theorem q3400 : (Jvm.Cond.methodLink "LibraryDeskLaw" (219 : Nat) ({ cls := "LibraryDeskLaw", name := "group", desc := "(LLibraryDesk;II[J)I" } : Jvm.MethodName)) ∈ lw_all := lw_g (lw_at lw_m13 13 rfl) rfl
theorem q3401 : (Jvm.Cond.static ({ cls := "LibraryDeskLaw", name := "group", desc := "(LLibraryDesk;II[J)I" } : Jvm.MethodName)) ∈ lw_all := lw_g (lw_at lw_m13 14 rfl) rfl
theorem q3402 : (Jvm.Cond.codeWith ({ cls := "LibraryDeskLaw", name := "group", desc := "(LLibraryDesk;II[J)I" } : Jvm.MethodName) method_19_code (5 : Nat) (Option.some Jvm.ClassFile.FieldType.int) [((0 : Nat), (10 : Nat), (13 : Nat), (19 : Nat))]) ∈ lw_all := lw_g (lw_at lw_m13 15 rfl) rfl
theorem q3403 : (Jvm.Cond.methodLink "LibraryDeskLaw" (78 : Nat) ({ cls := "LibraryDesk", name := "group", desc := "(II)I" } : Jvm.MethodName)) ∈ lw_all := lw_g (lw_at lw_m13 16 rfl) rfl
theorem q3407 : (Jvm.Cond.methodLink "LibraryDeskLaw" (223 : Nat) ({ cls := "LibraryDeskLaw", name := "replace", desc := "(LLibraryDesk;II[J)I" } : Jvm.MethodName)) ∈ lw_all := lw_g (lw_at lw_m13 20 rfl) rfl
theorem q3408 : (Jvm.Cond.static ({ cls := "LibraryDeskLaw", name := "replace", desc := "(LLibraryDesk;II[J)I" } : Jvm.MethodName)) ∈ lw_all := lw_g (lw_at lw_m13 21 rfl) rfl
theorem q3409 : (Jvm.Cond.codeWith ({ cls := "LibraryDeskLaw", name := "replace", desc := "(LLibraryDesk;II[J)I" } : Jvm.MethodName) method_20_code (5 : Nat) (Option.some Jvm.ClassFile.FieldType.int) [((0 : Nat), (10 : Nat), (13 : Nat), (32 : Nat)), ((0 : Nat), (10 : Nat), (17 : Nat), (38 : Nat)), ((0 : Nat), (10 : Nat), (21 : Nat), (25 : Nat)), ((0 : Nat), (10 : Nat), (25 : Nat), (40 : Nat)), ((0 : Nat), (10 : Nat), (29 : Nat), (13 : Nat))]) ∈ lw_all := lw_g (lw_at lw_m13 22 rfl) rfl
theorem q3410 : (Jvm.Cond.methodLink "LibraryDeskLaw" (82 : Nat) ({ cls := "LibraryDesk", name := "replace", desc := "(II)I" } : Jvm.MethodName)) ∈ lw_all := lw_g (lw_at lw_m13 23 rfl) rfl
theorem q3437 : (Jvm.Cond.methodLink "LibraryDeskLaw" (226 : Nat) ({ cls := "LibraryDeskLaw", name := "form", desc := "(LLibraryDesk;I[J)I" } : Jvm.MethodName)) ∈ lw_all := lw_g (lw_at lw_m13 50 rfl) rfl
theorem q3438 : (Jvm.Cond.static ({ cls := "LibraryDeskLaw", name := "form", desc := "(LLibraryDesk;I[J)I" } : Jvm.MethodName)) ∈ lw_all := lw_g (lw_at lw_m13 51 rfl) rfl
theorem q3439 : (Jvm.Cond.codeWith ({ cls := "LibraryDeskLaw", name := "form", desc := "(LLibraryDesk;I[J)I" } : Jvm.MethodName) method_21_code (4 : Nat) (Option.some Jvm.ClassFile.FieldType.int) [((0 : Nat), (9 : Nat), (12 : Nat), (32 : Nat)), ((0 : Nat), (9 : Nat), (15 : Nat), (38 : Nat)), ((0 : Nat), (9 : Nat), (18 : Nat), (25 : Nat)), ((0 : Nat), (9 : Nat), (21 : Nat), (40 : Nat)), ((0 : Nat), (9 : Nat), (24 : Nat), (13 : Nat))]) ∈ lw_all := lw_g (lw_at lw_m13 52 rfl) rfl
theorem q3440 : (Jvm.Cond.methodLink "LibraryDeskLaw" (85 : Nat) ({ cls := "LibraryDesk", name := "form", desc := "(I)I" } : Jvm.MethodName)) ∈ lw_all := lw_g (lw_at lw_m13 53 rfl) rfl
theorem q3574 : (Jvm.Cond.methodLink "LibraryDeskLaw" (231 : Nat) ({ cls := "LibraryDeskLaw", name := "set", desc := "(LLibraryDesk;IJ[J)I" } : Jvm.MethodName)) ∈ lw_all := lw_g (lw_at lw_m13 187 rfl) rfl
theorem q3575 : (Jvm.Cond.static ({ cls := "LibraryDeskLaw", name := "set", desc := "(LLibraryDesk;IJ[J)I" } : Jvm.MethodName)) ∈ lw_all := lw_g (lw_at lw_m13 188 rfl) rfl
theorem q3576 : (Jvm.Cond.codeWith ({ cls := "LibraryDeskLaw", name := "set", desc := "(LLibraryDesk;IJ[J)I" } : Jvm.MethodName) method_22_code (6 : Nat) (Option.some Jvm.ClassFile.FieldType.int) [((0 : Nat), (11 : Nat), (14 : Nat), (32 : Nat)), ((0 : Nat), (11 : Nat), (18 : Nat), (38 : Nat))]) ∈ lw_all := lw_g (lw_at lw_m13 189 rfl) rfl
theorem q3577 : (Jvm.Cond.methodLink "LibraryDeskLaw" (88 : Nat) ({ cls := "LibraryDesk", name := "set", desc := "(IJ)I" } : Jvm.MethodName)) ∈ lw_all := lw_g (lw_at lw_m13 190 rfl) rfl
theorem q3589 : (Jvm.Cond.methodLink "LibraryDeskLaw" (235 : Nat) ({ cls := "LibraryDeskLaw", name := "whole", desc := "(LLibraryDesk;IIII[J)I" } : Jvm.MethodName)) ∈ lw_all := lw_g (lw_at lw_m13 202 rfl) rfl
theorem q3590 : (Jvm.Cond.static ({ cls := "LibraryDeskLaw", name := "whole", desc := "(LLibraryDesk;IIII[J)I" } : Jvm.MethodName)) ∈ lw_all := lw_g (lw_at lw_m13 203 rfl) rfl
theorem q3591 : (Jvm.Cond.codeWith ({ cls := "LibraryDeskLaw", name := "whole", desc := "(LLibraryDesk;IIII[J)I" } : Jvm.MethodName) method_23_code (7 : Nat) (Option.some Jvm.ClassFile.FieldType.int) [((0 : Nat), (14 : Nat), (17 : Nat), (32 : Nat)), ((0 : Nat), (14 : Nat), (21 : Nat), (38 : Nat)), ((0 : Nat), (14 : Nat), (25 : Nat), (19 : Nat)), ((0 : Nat), (14 : Nat), (29 : Nat), (95 : Nat))]) ∈ lw_all := lw_g (lw_at lw_m13 204 rfl) rfl
theorem q3592 : (Jvm.Cond.classLink "LibraryDeskLaw" (95 : Nat) "java/lang/ArithmeticException") ∈ lw_all := lw_g (lw_at lw_m13 205 rfl) rfl
theorem q3606 : (Jvm.Cond.methodLink "LibraryDeskLaw" (92 : Nat) ({ cls := "LibraryDesk", name := "whole", desc := "(IIII)I" } : Jvm.MethodName)) ∈ lw_all := lw_g (lw_at lw_m13 219 rfl) rfl
theorem q3741 : (Jvm.Cond.methodLink "LibraryDeskLaw" (238 : Nat) ({ cls := "LibraryDeskLaw", name := "decimal", desc := "(LLibraryDesk;IIIII[J)I" } : Jvm.MethodName)) ∈ lw_all := lw_g (lw_at lw_m14 114 rfl) rfl
theorem q3742 : (Jvm.Cond.static ({ cls := "LibraryDeskLaw", name := "decimal", desc := "(LLibraryDesk;IIIII[J)I" } : Jvm.MethodName)) ∈ lw_all := lw_g (lw_at lw_m14 115 rfl) rfl
theorem q3743 : (Jvm.Cond.codeWith ({ cls := "LibraryDeskLaw", name := "decimal", desc := "(LLibraryDesk;IIIII[J)I" } : Jvm.MethodName) method_24_code (8 : Nat) (Option.some Jvm.ClassFile.FieldType.int) [((0 : Nat), (16 : Nat), (19 : Nat), (32 : Nat)), ((0 : Nat), (16 : Nat), (23 : Nat), (38 : Nat)), ((0 : Nat), (16 : Nat), (27 : Nat), (19 : Nat)), ((0 : Nat), (16 : Nat), (31 : Nat), (95 : Nat))]) ∈ lw_all := lw_g (lw_at lw_m14 116 rfl) rfl
theorem q3744 : (Jvm.Cond.methodLink "LibraryDeskLaw" (97 : Nat) ({ cls := "LibraryDesk", name := "decimal", desc := "(IIIII)I" } : Jvm.MethodName)) ∈ lw_all := lw_g (lw_at lw_m14 117 rfl) rfl
theorem q3811 : (Jvm.Cond.methodLink "LibraryDeskLaw" (241 : Nat) ({ cls := "LibraryDeskLaw", name := "tell", desc := "(LLibraryDesk;II[J)I" } : Jvm.MethodName)) ∈ lw_all := lw_g (lw_at lw_m14 184 rfl) rfl
theorem q3812 : (Jvm.Cond.static ({ cls := "LibraryDeskLaw", name := "tell", desc := "(LLibraryDesk;II[J)I" } : Jvm.MethodName)) ∈ lw_all := lw_g (lw_at lw_m14 185 rfl) rfl
theorem q3813 : (Jvm.Cond.codeWith ({ cls := "LibraryDeskLaw", name := "tell", desc := "(LLibraryDesk;II[J)I" } : Jvm.MethodName) method_25_code (5 : Nat) (Option.some Jvm.ClassFile.FieldType.int) [((0 : Nat), (9 : Nat), (12 : Nat), (32 : Nat)), ((0 : Nat), (9 : Nat), (16 : Nat), (38 : Nat)), ((0 : Nat), (9 : Nat), (20 : Nat), (19 : Nat))]) ∈ lw_all := lw_g (lw_at lw_m14 186 rfl) rfl
theorem q3814 : (Jvm.Cond.methodLink "LibraryDeskLaw" (100 : Nat) ({ cls := "LibraryDesk", name := "tell", desc := "(II)J" } : Jvm.MethodName)) ∈ lw_all := lw_g (lw_at lw_m14 187 rfl) rfl
theorem q3834 : (Jvm.Cond.methodLink "LibraryDeskLaw" (244 : Nat) ({ cls := "LibraryDeskLaw", name := "orde\x72", desc := "(LLibraryDesk;II[J)I" } : Jvm.MethodName)) ∈ lw_all := lw_g (lw_at lw_m14 207 rfl) rfl
theorem q3835 : (Jvm.Cond.static ({ cls := "LibraryDeskLaw", name := "orde\x72", desc := "(LLibraryDesk;II[J)I" } : Jvm.MethodName)) ∈ lw_all := lw_g (lw_at lw_m14 208 rfl) rfl
theorem q3836 : (Jvm.Cond.codeWith ({ cls := "LibraryDeskLaw", name := "orde\x72", desc := "(LLibraryDesk;II[J)I" } : Jvm.MethodName) method_26_code (5 : Nat) (Option.some Jvm.ClassFile.FieldType.int) [((0 : Nat), (10 : Nat), (13 : Nat), (32 : Nat)), ((0 : Nat), (10 : Nat), (17 : Nat), (38 : Nat))]) ∈ lw_all := lw_g (lw_at lw_m14 209 rfl) rfl
theorem q3837 : (Jvm.Cond.methodLink "LibraryDeskLaw" (104 : Nat) ({ cls := "LibraryDesk", name := "orde\x72", desc := "(II)I" } : Jvm.MethodName)) ∈ lw_all := lw_g (lw_at lw_m14 210 rfl) rfl
theorem q3850 : (Jvm.Cond.methodLink "LibraryDeskLaw" (247 : Nat) ({ cls := "LibraryDeskLaw", name := "read", desc := "(LLibraryDesk;II[J)I" } : Jvm.MethodName)) ∈ lw_all := lw_g (lw_at lw_m14 223 rfl) rfl
theorem q3851 : (Jvm.Cond.static ({ cls := "LibraryDeskLaw", name := "read", desc := "(LLibraryDesk;II[J)I" } : Jvm.MethodName)) ∈ lw_all := lw_g (lw_at lw_m14 224 rfl) rfl
theorem q3852 : (Jvm.Cond.codeWith ({ cls := "LibraryDeskLaw", name := "read", desc := "(LLibraryDesk;II[J)I" } : Jvm.MethodName) method_27_code (5 : Nat) (Option.some Jvm.ClassFile.FieldType.int) [((0 : Nat), (10 : Nat), (13 : Nat), (32 : Nat)), ((0 : Nat), (10 : Nat), (17 : Nat), (38 : Nat)), ((0 : Nat), (10 : Nat), (21 : Nat), (19 : Nat)), ((0 : Nat), (10 : Nat), (25 : Nat), (40 : Nat)), ((0 : Nat), (10 : Nat), (29 : Nat), (95 : Nat))]) ∈ lw_all := lw_g (lw_at lw_m14 225 rfl) rfl
theorem q3853 : (Jvm.Cond.methodLink "LibraryDeskLaw" (107 : Nat) ({ cls := "LibraryDesk", name := "read", desc := "(II)I" } : Jvm.MethodName)) ∈ lw_all := lw_g (lw_at lw_m14 226 rfl) rfl
theorem q3875 : (Jvm.Cond.methodLink "LibraryDeskLaw" (250 : Nat) ({ cls := "LibraryDeskLaw", name := "show", desc := "(LLibraryDesk;II[J)I" } : Jvm.MethodName)) ∈ lw_all := lw_g (lw_at lw_m15 8 rfl) rfl
theorem q3876 : (Jvm.Cond.static ({ cls := "LibraryDeskLaw", name := "show", desc := "(LLibraryDesk;II[J)I" } : Jvm.MethodName)) ∈ lw_all := lw_g (lw_at lw_m15 9 rfl) rfl
theorem q3877 : (Jvm.Cond.codeWith ({ cls := "LibraryDeskLaw", name := "show", desc := "(LLibraryDesk;II[J)I" } : Jvm.MethodName) method_28_code (5 : Nat) (Option.some Jvm.ClassFile.FieldType.int) [((0 : Nat), (10 : Nat), (13 : Nat), (32 : Nat)), ((0 : Nat), (10 : Nat), (17 : Nat), (38 : Nat)), ((0 : Nat), (10 : Nat), (21 : Nat), (19 : Nat))]) ∈ lw_all := lw_g (lw_at lw_m15 10 rfl) rfl
theorem q3878 : (Jvm.Cond.methodLink "LibraryDeskLaw" (110 : Nat) ({ cls := "LibraryDesk", name := "show", desc := "(II)I" } : Jvm.MethodName)) ∈ lw_all := lw_g (lw_at lw_m15 11 rfl) rfl
theorem q3899 : (Jvm.Cond.methodLink "LibraryDeskLaw" (253 : Nat) ({ cls := "LibraryDeskLaw", name := "stream", desc := "(LLibraryDesk;[J)I" } : Jvm.MethodName)) ∈ lw_all := lw_g (lw_at lw_m15 32 rfl) rfl
theorem q3900 : (Jvm.Cond.static ({ cls := "LibraryDeskLaw", name := "stream", desc := "(LLibraryDesk;[J)I" } : Jvm.MethodName)) ∈ lw_all := lw_g (lw_at lw_m15 33 rfl) rfl
theorem q3901 : (Jvm.Cond.codeWith ({ cls := "LibraryDeskLaw", name := "stream", desc := "(LLibraryDesk;[J)I" } : Jvm.MethodName) method_29_code (3 : Nat) (Option.some Jvm.ClassFile.FieldType.int) [((0 : Nat), (7 : Nat), (10 : Nat), (32 : Nat)), ((0 : Nat), (7 : Nat), (13 : Nat), (38 : Nat)), ((0 : Nat), (7 : Nat), (16 : Nat), (25 : Nat)), ((0 : Nat), (7 : Nat), (19 : Nat), (40 : Nat)), ((0 : Nat), (7 : Nat), (22 : Nat), (95 : Nat))]) ∈ lw_all := lw_g (lw_at lw_m15 34 rfl) rfl
theorem q3902 : (Jvm.Cond.methodLink "LibraryDeskLaw" (113 : Nat) ({ cls := "LibraryDesk", name := "stream", desc := "()J" } : Jvm.MethodName)) ∈ lw_all := lw_g (lw_at lw_m15 35 rfl) rfl
theorem q4127 : (Jvm.Cond.methodLink "LibraryDeskLaw" (256 : Nat) ({ cls := "LibraryDeskLaw", name := "thread", desc := "(LLibraryDesk;[J)I" } : Jvm.MethodName)) ∈ lw_all := lw_g (lw_at lw_m16 20 rfl) rfl
theorem q4128 : (Jvm.Cond.static ({ cls := "LibraryDeskLaw", name := "thread", desc := "(LLibraryDesk;[J)I" } : Jvm.MethodName)) ∈ lw_all := lw_g (lw_at lw_m16 21 rfl) rfl
theorem q4129 : (Jvm.Cond.codeWith ({ cls := "LibraryDeskLaw", name := "thread", desc := "(LLibraryDesk;[J)I" } : Jvm.MethodName) method_30_code (3 : Nat) (Option.some Jvm.ClassFile.FieldType.int) [((0 : Nat), (8 : Nat), (11 : Nat), (25 : Nat)), ((0 : Nat), (8 : Nat), (14 : Nat), (40 : Nat))]) ∈ lw_all := lw_g (lw_at lw_m16 22 rfl) rfl
theorem q4130 : (Jvm.Cond.methodLink "LibraryDeskLaw" (117 : Nat) ({ cls := "LibraryDesk", name := "thread", desc := "()I" } : Jvm.MethodName)) ∈ lw_all := lw_g (lw_at lw_m16 23 rfl) rfl
theorem q4190 : (Jvm.Cond.methodLink "LibraryDeskLaw" (259 : Nat) ({ cls := "LibraryDeskLaw", name := "step", desc := "(LLibraryDesk;I[J)I" } : Jvm.MethodName)) ∈ lw_all := lw_g (lw_at lw_m16 83 rfl) rfl
theorem q4191 : (Jvm.Cond.static ({ cls := "LibraryDeskLaw", name := "step", desc := "(LLibraryDesk;I[J)I" } : Jvm.MethodName)) ∈ lw_all := lw_g (lw_at lw_m16 84 rfl) rfl
theorem q4192 : (Jvm.Cond.codeWith ({ cls := "LibraryDeskLaw", name := "step", desc := "(LLibraryDesk;I[J)I" } : Jvm.MethodName) method_31_code (4 : Nat) (Option.some Jvm.ClassFile.FieldType.int) [((0 : Nat), (9 : Nat), (12 : Nat), (19 : Nat))]) ∈ lw_all := lw_g (lw_at lw_m16 85 rfl) rfl
theorem q4193 : (Jvm.Cond.methodLink "LibraryDeskLaw" (120 : Nat) ({ cls := "LibraryDesk", name := "step", desc := "(I)I" } : Jvm.MethodName)) ∈ lw_all := lw_g (lw_at lw_m16 86 rfl) rfl
theorem q4325 : (Jvm.Cond.methodLink "LibraryDeskLaw" (262 : Nat) ({ cls := "LibraryDeskLaw", name := "run", desc := "(LLibraryDesk;II[J)I" } : Jvm.MethodName)) ∈ lw_all := lw_g (lw_at lw_m16 218 rfl) rfl
theorem q4326 : (Jvm.Cond.static ({ cls := "LibraryDeskLaw", name := "run", desc := "(LLibraryDesk;II[J)I" } : Jvm.MethodName)) ∈ lw_all := lw_g (lw_at lw_m16 219 rfl) rfl
theorem q4327 : (Jvm.Cond.codeWith ({ cls := "LibraryDeskLaw", name := "run", desc := "(LLibraryDesk;II[J)I" } : Jvm.MethodName) method_32_code (5 : Nat) (Option.some Jvm.ClassFile.FieldType.int) [((0 : Nat), (10 : Nat), (13 : Nat), (19 : Nat))]) ∈ lw_all := lw_g (lw_at lw_m16 220 rfl) rfl
theorem q4328 : (Jvm.Cond.methodLink "LibraryDeskLaw" (123 : Nat) ({ cls := "LibraryDesk", name := "run", desc := "(II)I" } : Jvm.MethodName)) ∈ lw_all := lw_g (lw_at lw_m16 221 rfl) rfl
theorem q4339 : (Jvm.Cond.methodLink "LibraryDeskLaw" (265 : Nat) ({ cls := "LibraryDeskLaw", name := "tick", desc := "(LLibraryDesk;I[J)I" } : Jvm.MethodName)) ∈ lw_all := lw_g (lw_at lw_m16 232 rfl) rfl
theorem q4340 : (Jvm.Cond.static ({ cls := "LibraryDeskLaw", name := "tick", desc := "(LLibraryDesk;I[J)I" } : Jvm.MethodName)) ∈ lw_all := lw_g (lw_at lw_m16 233 rfl) rfl
theorem q4341 : (Jvm.Cond.codeWith ({ cls := "LibraryDeskLaw", name := "tick", desc := "(LLibraryDesk;I[J)I" } : Jvm.MethodName) method_33_code (4 : Nat) (Option.some Jvm.ClassFile.FieldType.int) [((0 : Nat), (9 : Nat), (12 : Nat), (19 : Nat))]) ∈ lw_all := lw_g (lw_at lw_m16 234 rfl) rfl
theorem q4342 : (Jvm.Cond.methodLink "LibraryDeskLaw" (126 : Nat) ({ cls := "LibraryDesk", name := "tick", desc := "(I)I" } : Jvm.MethodName)) ∈ lw_all := lw_g (lw_at lw_m16 235 rfl) rfl
theorem q4350 : (Jvm.Cond.methodLink "LibraryDeskLaw" (268 : Nat) ({ cls := "LibraryDeskLaw", name := "interrupt", desc := "(LLibraryDesk;I[J)I" } : Jvm.MethodName)) ∈ lw_all := lw_g (lw_at lw_m17 3 rfl) rfl
theorem q4351 : (Jvm.Cond.static ({ cls := "LibraryDeskLaw", name := "interrupt", desc := "(LLibraryDesk;I[J)I" } : Jvm.MethodName)) ∈ lw_all := lw_g (lw_at lw_m17 4 rfl) rfl
theorem q4352 : (Jvm.Cond.codeWith ({ cls := "LibraryDeskLaw", name := "interrupt", desc := "(LLibraryDesk;I[J)I" } : Jvm.MethodName) method_34_code (4 : Nat) (Option.some Jvm.ClassFile.FieldType.int) [((0 : Nat), (9 : Nat), (12 : Nat), (19 : Nat))]) ∈ lw_all := lw_g (lw_at lw_m17 5 rfl) rfl
theorem q4353 : (Jvm.Cond.methodLink "LibraryDeskLaw" (129 : Nat) ({ cls := "LibraryDesk", name := "interrupt", desc := "(I)I" } : Jvm.MethodName)) ∈ lw_all := lw_g (lw_at lw_m17 6 rfl) rfl
theorem q4361 : (Jvm.Cond.methodLink "LibraryDeskLaw" (271 : Nat) ({ cls := "LibraryDeskLaw", name := "look", desc := "(LLibraryDesk;II[J)I" } : Jvm.MethodName)) ∈ lw_all := lw_g (lw_at lw_m17 14 rfl) rfl
theorem q4362 : (Jvm.Cond.static ({ cls := "LibraryDeskLaw", name := "look", desc := "(LLibraryDesk;II[J)I" } : Jvm.MethodName)) ∈ lw_all := lw_g (lw_at lw_m17 15 rfl) rfl
theorem q4363 : (Jvm.Cond.codeWith ({ cls := "LibraryDeskLaw", name := "look", desc := "(LLibraryDesk;II[J)I" } : Jvm.MethodName) method_35_code (5 : Nat) (Option.some Jvm.ClassFile.FieldType.int) [((0 : Nat), (9 : Nat), (12 : Nat), (19 : Nat))]) ∈ lw_all := lw_g (lw_at lw_m17 16 rfl) rfl
theorem q4364 : (Jvm.Cond.methodLink "LibraryDeskLaw" (132 : Nat) ({ cls := "LibraryDesk", name := "look", desc := "(II)J" } : Jvm.MethodName)) ∈ lw_all := lw_g (lw_at lw_m17 17 rfl) rfl
theorem q4373 : (Jvm.Cond.methodLink "LibraryDeskLaw" (278 : Nat) ({ cls := "LibraryDeskLaw", name := "sync", desc := "(LLibraryDesk;II[J)I" } : Jvm.MethodName)) ∈ lw_all := lw_g (lw_at lw_m17 26 rfl) rfl
theorem q4374 : (Jvm.Cond.static ({ cls := "LibraryDeskLaw", name := "sync", desc := "(LLibraryDesk;II[J)I" } : Jvm.MethodName)) ∈ lw_all := lw_g (lw_at lw_m17 27 rfl) rfl
theorem q4375 : (Jvm.Cond.codeWith ({ cls := "LibraryDeskLaw", name := "sync", desc := "(LLibraryDesk;II[J)I" } : Jvm.MethodName) method_36_code (5 : Nat) (Option.some Jvm.ClassFile.FieldType.int) [((0 : Nat), (9 : Nat), (12 : Nat), (32 : Nat)), ((0 : Nat), (9 : Nat), (16 : Nat), (38 : Nat)), ((0 : Nat), (9 : Nat), (20 : Nat), (19 : Nat)), ((0 : Nat), (9 : Nat), (24 : Nat), (40 : Nat))]) ∈ lw_all := lw_g (lw_at lw_m17 28 rfl) rfl
theorem q4376 : (Jvm.Cond.methodLink "LibraryDeskLaw" (135 : Nat) ({ cls := "LibraryDesk", name := "sync", desc := "(II)J" } : Jvm.MethodName)) ∈ lw_all := lw_g (lw_at lw_m17 29 rfl) rfl
theorem q4384 : (Jvm.Cond.methodLink "LibraryDeskLaw" (281 : Nat) ({ cls := "LibraryDeskLaw", name := "date", desc := "(LLibraryDesk;III[J)I" } : Jvm.MethodName)) ∈ lw_all := lw_g (lw_at lw_m17 37 rfl) rfl
theorem q4385 : (Jvm.Cond.static ({ cls := "LibraryDeskLaw", name := "date", desc := "(LLibraryDesk;III[J)I" } : Jvm.MethodName)) ∈ lw_all := lw_g (lw_at lw_m17 38 rfl) rfl
theorem q4386 : (Jvm.Cond.codeWith ({ cls := "LibraryDeskLaw", name := "date", desc := "(LLibraryDesk;III[J)I" } : Jvm.MethodName) method_37_code (6 : Nat) (Option.some Jvm.ClassFile.FieldType.int) [((0 : Nat), (12 : Nat), (15 : Nat), (19 : Nat))]) ∈ lw_all := lw_g (lw_at lw_m17 39 rfl) rfl
theorem q4387 : (Jvm.Cond.methodLink "LibraryDeskLaw" (138 : Nat) ({ cls := "LibraryDesk", name := "date", desc := "(III)I" } : Jvm.MethodName)) ∈ lw_all := lw_g (lw_at lw_m17 40 rfl) rfl
theorem q4408 : (Jvm.Cond.methodLink "LibraryDeskLaw" (284 : Nat) ({ cls := "LibraryDeskLaw", name := "part", desc := "(LLibraryDesk;II[J)I" } : Jvm.MethodName)) ∈ lw_all := lw_g (lw_at lw_m17 61 rfl) rfl
theorem q4409 : (Jvm.Cond.static ({ cls := "LibraryDeskLaw", name := "part", desc := "(LLibraryDesk;II[J)I" } : Jvm.MethodName)) ∈ lw_all := lw_g (lw_at lw_m17 62 rfl) rfl
theorem q4410 : (Jvm.Cond.codeWith ({ cls := "LibraryDeskLaw", name := "part", desc := "(LLibraryDesk;II[J)I" } : Jvm.MethodName) method_38_code (5 : Nat) (Option.some Jvm.ClassFile.FieldType.int) [((0 : Nat), (10 : Nat), (13 : Nat), (19 : Nat))]) ∈ lw_all := lw_g (lw_at lw_m17 63 rfl) rfl
theorem q4411 : (Jvm.Cond.methodLink "LibraryDeskLaw" (141 : Nat) ({ cls := "LibraryDesk", name := "part", desc := "(II)I" } : Jvm.MethodName)) ∈ lw_all := lw_g (lw_at lw_m17 64 rfl) rfl
theorem q4437 : (Jvm.Cond.methodLink "LibraryDeskLaw" (287 : Nat) ({ cls := "LibraryDeskLaw", name := "plus", desc := "(LLibraryDesk;III[J)I" } : Jvm.MethodName)) ∈ lw_all := lw_g (lw_at lw_m17 90 rfl) rfl
theorem q4438 : (Jvm.Cond.static ({ cls := "LibraryDeskLaw", name := "plus", desc := "(LLibraryDesk;III[J)I" } : Jvm.MethodName)) ∈ lw_all := lw_g (lw_at lw_m17 91 rfl) rfl
theorem q4439 : (Jvm.Cond.codeWith ({ cls := "LibraryDeskLaw", name := "plus", desc := "(LLibraryDesk;III[J)I" } : Jvm.MethodName) method_39_code (6 : Nat) (Option.some Jvm.ClassFile.FieldType.int) [((0 : Nat), (12 : Nat), (15 : Nat), (19 : Nat)), ((0 : Nat), (12 : Nat), (19 : Nat), (95 : Nat))]) ∈ lw_all := lw_g (lw_at lw_m17 92 rfl) rfl
theorem q4440 : (Jvm.Cond.methodLink "LibraryDeskLaw" (144 : Nat) ({ cls := "LibraryDesk", name := "plus", desc := "(III)I" } : Jvm.MethodName)) ∈ lw_all := lw_g (lw_at lw_m17 93 rfl) rfl
theorem q4452 : (Jvm.Cond.methodLink "LibraryDeskLaw" (290 : Nat) ({ cls := "LibraryDeskLaw", name := "between", desc := "(LLibraryDesk;III[J)I" } : Jvm.MethodName)) ∈ lw_all := lw_g (lw_at lw_m17 105 rfl) rfl
theorem q4453 : (Jvm.Cond.static ({ cls := "LibraryDeskLaw", name := "between", desc := "(LLibraryDesk;III[J)I" } : Jvm.MethodName)) ∈ lw_all := lw_g (lw_at lw_m17 106 rfl) rfl
theorem q4454 : (Jvm.Cond.codeWith ({ cls := "LibraryDeskLaw", name := "between", desc := "(LLibraryDesk;III[J)I" } : Jvm.MethodName) method_40_code (6 : Nat) (Option.some Jvm.ClassFile.FieldType.int) [((0 : Nat), (12 : Nat), (15 : Nat), (19 : Nat))]) ∈ lw_all := lw_g (lw_at lw_m17 107 rfl) rfl
theorem q4455 : (Jvm.Cond.methodLink "LibraryDeskLaw" (147 : Nat) ({ cls := "LibraryDesk", name := "between", desc := "(III)I" } : Jvm.MethodName)) ∈ lw_all := lw_g (lw_at lw_m17 108 rfl) rfl
theorem q4464 : (Jvm.Cond.methodLink "LibraryDeskLaw" (293 : Nat) ({ cls := "LibraryDeskLaw", name := "word", desc := "(LLibraryDesk;I[J)I" } : Jvm.MethodName)) ∈ lw_all := lw_g (lw_at lw_m17 117 rfl) rfl
theorem q4465 : (Jvm.Cond.static ({ cls := "LibraryDeskLaw", name := "word", desc := "(LLibraryDesk;I[J)I" } : Jvm.MethodName)) ∈ lw_all := lw_g (lw_at lw_m17 118 rfl) rfl
theorem q4466 : (Jvm.Cond.codeWith ({ cls := "LibraryDeskLaw", name := "word", desc := "(LLibraryDesk;I[J)I" } : Jvm.MethodName) method_41_code (4 : Nat) (Option.some Jvm.ClassFile.FieldType.int) [((0 : Nat), (8 : Nat), (11 : Nat), (13 : Nat))]) ∈ lw_all := lw_g (lw_at lw_m17 119 rfl) rfl
theorem q4467 : (Jvm.Cond.methodLink "LibraryDeskLaw" (150 : Nat) ({ cls := "LibraryDesk", name := "word", desc := "(I)J" } : Jvm.MethodName)) ∈ lw_all := lw_g (lw_at lw_m17 120 rfl) rfl
theorem q4476 : (Jvm.Cond.methodLink "LibraryDeskLaw" (296 : Nat) ({ cls := "LibraryDeskLaw", name := "count", desc := "(LLibraryDesk;I[J)I" } : Jvm.MethodName)) ∈ lw_all := lw_g (lw_at lw_m17 129 rfl) rfl
theorem q4477 : (Jvm.Cond.static ({ cls := "LibraryDeskLaw", name := "count", desc := "(LLibraryDesk;I[J)I" } : Jvm.MethodName)) ∈ lw_all := lw_g (lw_at lw_m17 130 rfl) rfl
theorem q4478 : (Jvm.Cond.codeWith ({ cls := "LibraryDeskLaw", name := "count", desc := "(LLibraryDesk;I[J)I" } : Jvm.MethodName) method_42_code (4 : Nat) (Option.some Jvm.ClassFile.FieldType.int) [((0 : Nat), (8 : Nat), (11 : Nat), (19 : Nat))]) ∈ lw_all := lw_g (lw_at lw_m17 131 rfl) rfl
theorem q4479 : (Jvm.Cond.methodLink "LibraryDeskLaw" (154 : Nat) ({ cls := "LibraryDesk", name := "count", desc := "(I)J" } : Jvm.MethodName)) ∈ lw_all := lw_g (lw_at lw_m17 132 rfl) rfl
theorem q4484 : (Jvm.Cond.classLink "LibraryDeskLaw" (158 : Nat) "LibraryDeskModel") ∈ lw_all := lw_g (lw_at lw_m17 137 rfl) rfl
theorem q4486 : (Jvm.Cond.methodLink "LibraryDeskLaw" (160 : Nat) ({ cls := "LibraryDeskModel", name := "<init>", desc := "()V" } : Jvm.MethodName)) ∈ lw_all := lw_g (lw_at lw_m17 139 rfl) rfl
theorem q4886 : (Jvm.Cond.methodLink "LibraryDeskLaw" (167 : Nat) ({ cls := "LibraryDeskModel", name := "thrown", desc := "()I" } : Jvm.MethodName)) ∈ lw_all := lw_g (lw_at lw_m19 59 rfl) rfl
theorem q4890 : (Jvm.Cond.methodLink "LibraryDeskLaw" (166 : Nat) ({ cls := "LibraryDeskModel", name := "feed", desc := "(IIIII)I" } : Jvm.MethodName)) ∈ lw_all := lw_g (lw_at lw_m19 63 rfl) rfl
theorem q4902 : (Jvm.Cond.methodLink "LibraryDeskLaw" (173 : Nat) ({ cls := "LibraryDeskModel", name := "end", desc := "(I)I" } : Jvm.MethodName)) ∈ lw_all := lw_g (lw_at lw_m19 75 rfl) rfl
theorem q4909 : (Jvm.Cond.methodLink "LibraryDeskLaw" (177 : Nat) ({ cls := "LibraryDeskModel", name := "make", desc := "(III)I" } : Jvm.MethodName)) ∈ lw_all := lw_g (lw_at lw_m19 82 rfl) rfl
theorem q4928 : (Jvm.Cond.methodLink "LibraryDeskLaw" (180 : Nat) ({ cls := "LibraryDeskModel", name := "drop", desc := "(I)I" } : Jvm.MethodName)) ∈ lw_all := lw_g (lw_at lw_m19 101 rfl) rfl
theorem q4941 : (Jvm.Cond.methodLink "LibraryDeskLaw" (184 : Nat) ({ cls := "LibraryDeskModel", name := "list", desc := "(IIII)J" } : Jvm.MethodName)) ∈ lw_all := lw_g (lw_at lw_m19 114 rfl) rfl
theorem q5042 : (Jvm.Cond.methodLink "LibraryDeskLaw" (187 : Nat) ({ cls := "LibraryDeskModel", name := "ring", desc := "(III)J" } : Jvm.MethodName)) ∈ lw_all := lw_g (lw_at lw_m19 215 rfl) rfl
theorem q5051 : (Jvm.Cond.methodLink "LibraryDeskLaw" (190 : Nat) ({ cls := "LibraryDeskModel", name := "map", desc := "(IIII)J" } : Jvm.MethodName)) ∈ lw_all := lw_g (lw_at lw_m19 224 rfl) rfl
theorem q5147 : (Jvm.Cond.methodLink "LibraryDeskLaw" (193 : Nat) ({ cls := "LibraryDeskModel", name := "view", desc := "(IIII)I" } : Jvm.MethodName)) ∈ lw_all := lw_g (lw_at lw_m20 80 rfl) rfl
theorem q5152 : (Jvm.Cond.methodLink "LibraryDeskLaw" (196 : Nat) ({ cls := "LibraryDeskModel", name := "curso\x72", desc := "(I)I" } : Jvm.MethodName)) ∈ lw_all := lw_g (lw_at lw_m20 85 rfl) rfl
theorem q5156 : (Jvm.Cond.methodLink "LibraryDeskLaw" (199 : Nat) ({ cls := "LibraryDeskModel", name := "move", desc := "(III)J" } : Jvm.MethodName)) ∈ lw_all := lw_g (lw_at lw_m20 89 rfl) rfl
theorem q5160 : (Jvm.Cond.methodLink "LibraryDeskLaw" (208 : Nat) ({ cls := "LibraryDeskModel", name := "item", desc := "(III)J" } : Jvm.MethodName)) ∈ lw_all := lw_g (lw_at lw_m20 93 rfl) rfl
theorem q5164 : (Jvm.Cond.methodLink "LibraryDeskLaw" (202 : Nat) ({ cls := "LibraryDeskModel", name := "heap", desc := "(III)J" } : Jvm.MethodName)) ∈ lw_all := lw_g (lw_at lw_m20 97 rfl) rfl
theorem q5176 : (Jvm.Cond.methodLink "LibraryDeskLaw" (205 : Nat) ({ cls := "LibraryDeskModel", name := "bits", desc := "(IIII)J" } : Jvm.MethodName)) ∈ lw_all := lw_g (lw_at lw_m20 109 rfl) rfl
theorem q5189 : (Jvm.Cond.methodLink "LibraryDeskLaw" (211 : Nat) ({ cls := "LibraryDeskModel", name := "text", desc := "(IIII)I" } : Jvm.MethodName)) ∈ lw_all := lw_g (lw_at lw_m20 122 rfl) rfl
theorem q5247 : (Jvm.Cond.methodLink "LibraryDeskLaw" (215 : Nat) ({ cls := "LibraryDeskModel", name := "pattern", desc := "()I" } : Jvm.MethodName)) ∈ lw_all := lw_g (lw_at lw_m20 180 rfl) rfl
theorem q5344 : (Jvm.Cond.methodLink "LibraryDeskLaw" (218 : Nat) ({ cls := "LibraryDeskModel", name := "match", desc := "(IIII)I" } : Jvm.MethodName)) ∈ lw_all := lw_g (lw_at lw_m21 37 rfl) rfl
theorem q5424 : (Jvm.Cond.methodLink "LibraryDeskLaw" (222 : Nat) ({ cls := "LibraryDeskModel", name := "group", desc := "(II)I" } : Jvm.MethodName)) ∈ lw_all := lw_g (lw_at lw_m21 117 rfl) rfl
theorem q5428 : (Jvm.Cond.methodLink "LibraryDeskLaw" (225 : Nat) ({ cls := "LibraryDeskModel", name := "replace", desc := "(II)I" } : Jvm.MethodName)) ∈ lw_all := lw_g (lw_at lw_m21 121 rfl) rfl
theorem q5436 : (Jvm.Cond.methodLink "LibraryDeskLaw" (228 : Nat) ({ cls := "LibraryDeskModel", name := "form", desc := "(I)I" } : Jvm.MethodName)) ∈ lw_all := lw_g (lw_at lw_m21 129 rfl) rfl
theorem q5531 : (Jvm.Cond.methodLink "LibraryDeskLaw" (234 : Nat) ({ cls := "LibraryDeskModel", name := "set", desc := "(IJ)I" } : Jvm.MethodName)) ∈ lw_all := lw_g (lw_at lw_m21 224 rfl) rfl
theorem q5544 : (Jvm.Cond.methodLink "LibraryDeskLaw" (237 : Nat) ({ cls := "LibraryDeskModel", name := "whole", desc := "(IIII)I" } : Jvm.MethodName)) ∈ lw_all := lw_g (lw_at lw_m21 237 rfl) rfl
theorem q5632 : (Jvm.Cond.methodLink "LibraryDeskLaw" (243 : Nat) ({ cls := "LibraryDeskModel", name := "tell", desc := "(II)J" } : Jvm.MethodName)) ∈ lw_all := lw_g (lw_at lw_m22 85 rfl) rfl
theorem q5644 : (Jvm.Cond.methodLink "LibraryDeskLaw" (246 : Nat) ({ cls := "LibraryDeskModel", name := "orde\x72", desc := "(II)I" } : Jvm.MethodName)) ∈ lw_all := lw_g (lw_at lw_m22 97 rfl) rfl
theorem q5664 : (Jvm.Cond.methodLink "LibraryDeskLaw" (249 : Nat) ({ cls := "LibraryDeskModel", name := "read", desc := "(II)I" } : Jvm.MethodName)) ∈ lw_all := lw_g (lw_at lw_m22 117 rfl) rfl
theorem q5686 : (Jvm.Cond.methodLink "LibraryDeskLaw" (252 : Nat) ({ cls := "LibraryDeskModel", name := "show", desc := "(II)I" } : Jvm.MethodName)) ∈ lw_all := lw_g (lw_at lw_m22 139 rfl) rfl
theorem q5690 : (Jvm.Cond.methodLink "LibraryDeskLaw" (240 : Nat) ({ cls := "LibraryDeskModel", name := "decimal", desc := "(IIIII)I" } : Jvm.MethodName)) ∈ lw_all := lw_g (lw_at lw_m22 143 rfl) rfl
theorem q5726 : (Jvm.Cond.methodLink "LibraryDeskLaw" (255 : Nat) ({ cls := "LibraryDeskModel", name := "stream", desc := "()J" } : Jvm.MethodName)) ∈ lw_all := lw_g (lw_at lw_m22 179 rfl) rfl
theorem q5870 : (Jvm.Cond.methodLink "LibraryDeskLaw" (258 : Nat) ({ cls := "LibraryDeskModel", name := "thread", desc := "()I" } : Jvm.MethodName)) ∈ lw_all := lw_g (lw_at lw_m23 83 rfl) rfl
theorem q5895 : (Jvm.Cond.methodLink "LibraryDeskLaw" (261 : Nat) ({ cls := "LibraryDeskModel", name := "step", desc := "(I)I" } : Jvm.MethodName)) ∈ lw_all := lw_g (lw_at lw_m23 108 rfl) rfl
theorem q5984 : (Jvm.Cond.methodLink "LibraryDeskLaw" (264 : Nat) ({ cls := "LibraryDeskModel", name := "run", desc := "(II)I" } : Jvm.MethodName)) ∈ lw_all := lw_g (lw_at lw_m23 197 rfl) rfl
theorem q5988 : (Jvm.Cond.methodLink "LibraryDeskLaw" (267 : Nat) ({ cls := "LibraryDeskModel", name := "tick", desc := "(I)I" } : Jvm.MethodName)) ∈ lw_all := lw_g (lw_at lw_m23 201 rfl) rfl
theorem q5992 : (Jvm.Cond.methodLink "LibraryDeskLaw" (270 : Nat) ({ cls := "LibraryDeskModel", name := "interrupt", desc := "(I)I" } : Jvm.MethodName)) ∈ lw_all := lw_g (lw_at lw_m23 205 rfl) rfl
theorem q5996 : (Jvm.Cond.methodLink "LibraryDeskLaw" (273 : Nat) ({ cls := "LibraryDeskModel", name := "look", desc := "(II)J" } : Jvm.MethodName)) ∈ lw_all := lw_g (lw_at lw_m23 209 rfl) rfl
theorem q6000 : (Jvm.Cond.methodLink "LibraryDeskLaw" (277 : Nat) ({ cls := "LibraryDeskModel", name := "dead", desc := "()I" } : Jvm.MethodName)) ∈ lw_all := lw_g (lw_at lw_m23 213 rfl) rfl
theorem q6008 : (Jvm.Cond.methodLink "LibraryDeskLaw" (280 : Nat) ({ cls := "LibraryDeskModel", name := "sync", desc := "(II)J" } : Jvm.MethodName)) ∈ lw_all := lw_g (lw_at lw_m23 221 rfl) rfl
theorem q6012 : (Jvm.Cond.methodLink "LibraryDeskLaw" (283 : Nat) ({ cls := "LibraryDeskModel", name := "date", desc := "(III)I" } : Jvm.MethodName)) ∈ lw_all := lw_g (lw_at lw_m23 225 rfl) rfl
theorem q6037 : (Jvm.Cond.methodLink "LibraryDeskLaw" (286 : Nat) ({ cls := "LibraryDeskModel", name := "part", desc := "(II)I" } : Jvm.MethodName)) ∈ lw_all := lw_g (lw_at lw_m24 10 rfl) rfl
theorem q6053 : (Jvm.Cond.methodLink "LibraryDeskLaw" (289 : Nat) ({ cls := "LibraryDeskModel", name := "plus", desc := "(III)I" } : Jvm.MethodName)) ∈ lw_all := lw_g (lw_at lw_m24 26 rfl) rfl
theorem q6062 : (Jvm.Cond.methodLink "LibraryDeskLaw" (292 : Nat) ({ cls := "LibraryDeskModel", name := "between", desc := "(III)I" } : Jvm.MethodName)) ∈ lw_all := lw_g (lw_at lw_m24 35 rfl) rfl
theorem q6070 : (Jvm.Cond.methodLink "LibraryDeskLaw" (295 : Nat) ({ cls := "LibraryDeskModel", name := "word", desc := "(I)J" } : Jvm.MethodName)) ∈ lw_all := lw_g (lw_at lw_m24 43 rfl) rfl
theorem q6074 : (Jvm.Cond.methodLink "LibraryDeskLaw" (298 : Nat) ({ cls := "LibraryDeskModel", name := "count", desc := "(I)J" } : Jvm.MethodName)) ∈ lw_all := lw_g (lw_at lw_m24 47 rfl) rfl
theorem q6079 : (Jvm.Cond.constantLong "LibraryDeskLaw" (229 : Nat) (4294967295 : Int64)) ∈ lw_all := lw_g (lw_at lw_m24 52 rfl) rfl

/-! LibraryDesk -/
set_option maxRecDepth 100000
def RX1 : String := "LibraryDesk"
def TX1 : u_T := fun k => match k with
  | 0 => ("LibraryDesk", "tape", "[B", true)
  | 1 => ("LibraryDesk", "taped", "I", false)
  | 2 => ("LibraryDesk", "out", "LLibraryDesk$Out;", true)
  | 3 => ("LibraryDesk", "spare", "LLibraryDesk$Out;", true)
  | 4 => ("LibraryDesk", "place", "I", false)
  | 5 => ("LibraryDesk", "called", "J", false)
  | 6 => ("LibraryDesk", "things", "[LLibraryDesk$Thing;", true)
  | 7 => ("LibraryDesk", "partOf", "[I", true)
  | 8 => ("LibraryDesk", "all", "[LLibraryDesk$Thing;", true)
  | 9 => ("LibraryDesk", "allMany", "I", false)
  | 10 => ("LibraryDesk", "lists", "LLibraryDesk$ListWork;", true)
  | 11 => ("LibraryDesk", "patterns", "LLibraryDesk$PatternReader;", true)
  | 12 => ("LibraryDesk", "matche\x72", "LLibraryDesk$Matcher;", true)
  | 13 => ("LibraryDesk", "forme\x72", "LLibraryDesk$Former;", true)
  | 14 => ("LibraryDesk", "reckone\x72", "LLibraryDesk$Reckoner;", true)
  | 15 => ("LibraryDesk", "decimals", "LLibraryDesk$Decimals;", true)
  | 16 => ("LibraryDesk", "numerals", "LLibraryDesk$Numerals;", true)
  | 17 => ("LibraryDesk", "streams", "LLibraryDesk$Streamer;", true)
  | 18 => ("LibraryDesk", "threads", "LLibraryDesk$Threads;", true)
  | 19 => ("LibraryDesk", "keys", "[I", true)
  | _ => ("LibraryDesk", "values", "[I", true)
def tyX1 : Nat → FieldType := fun k => match k with
  | 0 => .array .byte
  | 1 => .int
  | 2 => .object "LibraryDesk$Out"
  | 3 => .object "LibraryDesk$Out"
  | 4 => .int
  | 5 => .long
  | 6 => .array (.object "LibraryDesk$Thing")
  | 7 => .array .int
  | 8 => .array (.object "LibraryDesk$Thing")
  | 9 => .int
  | 10 => .object "LibraryDesk$ListWork"
  | 11 => .object "LibraryDesk$PatternReade\x72"
  | 12 => .object "LibraryDesk$Matche\x72"
  | 13 => .object "LibraryDesk$Forme\x72"
  | 14 => .object "LibraryDesk$Reckone\x72"
  | 15 => .object "LibraryDesk$Decimals"
  | 16 => .object "LibraryDesk$Numerals"
  | 17 => .object "LibraryDesk$Streame\x72"
  | 18 => .object "LibraryDesk$Threads"
  | 19 => .array .int
  | _ => .array .int
abbrev wsX10 : List Cond := u_ws RX1 TX1 21
set_option maxRecDepth 100000 in
theorem nmX1 : ∀ a, a < 21 → ∀ b, b < 21 → a ≠ b → (TX1 a).2.1 ≠ (TX1 b).2.1 := by decide +kernel
set_option maxRecDepth 100000 in
theorem tyX1_ok : ∀ k, k < 21 → parseFieldDescriptor (TX1 k).2.2.1 = some (tyX1 k) := by decide +kernel
abbrev cX1_init : ByteArray := prog_1_method_11_code
def yX1_init : MethodName := ⟨RX1, "<init>", "()V"⟩
def dkwX1_init_8 : List UInt8 := [181, 0, 129, 42, 17, 7, 208, 188, 10, 181, 0, 132, 177]
abbrev dktX1_init_8 : List UInt8 := dkwX1_init_8 ++ []
def dkwX1_init_7 : List UInt8 := [181, 0, 116, 42, 187, 0, 120, 89, 42, 180, 0, 51, 183, 0, 122, 181, 0, 125, 42, 17, 7, 208, 188, 10]
abbrev dktX1_init_7 : List UInt8 := dkwX1_init_7 ++ dktX1_init_8
def dkwX1_init_6 : List UInt8 := [181, 0, 102, 42, 187, 0, 106, 89, 183, 0, 108, 181, 0, 109, 42, 187, 0, 113, 89, 183, 0, 115]
abbrev dktX1_init_6 : List UInt8 := dkwX1_init_6 ++ dktX1_init_7
def dkwX1_init_5 : List UInt8 := [187, 0, 90, 89, 183, 0, 92, 181, 0, 93, 42, 187, 0, 97, 89, 42, 180, 0, 93, 183, 0, 99]
abbrev dktX1_init_5 : List UInt8 := dkwX1_init_5 ++ dktX1_init_6
def dkwX1_init_4 : List UInt8 := [187, 0, 76, 89, 183, 0, 78, 181, 0, 79, 42, 187, 0, 83, 89, 183, 0, 85, 181, 0, 86, 42]
abbrev dktX1_init_4 : List UInt8 := dkwX1_init_4 ++ dktX1_init_5
def dkwX1_init_3 : List UInt8 := [187, 0, 62, 89, 183, 0, 64, 181, 0, 65, 42, 187, 0, 69, 89, 183, 0, 71, 181, 0, 72, 42]
abbrev dktX1_init_3 : List UInt8 := dkwX1_init_3 ++ dktX1_init_4
def dkwX1_init_2 : List UInt8 := [181, 0, 51, 42, 16, 24, 188, 10, 181, 0, 55, 42, 17, 1, 248, 189, 0, 49, 181, 0, 59, 42]
abbrev dktX1_init_2 : List UInt8 := dkwX1_init_2 ++ dktX1_init_3
def dkwX1_init_1 : List UInt8 := [42, 187, 0, 35, 89, 183, 0, 37, 181, 0, 42, 42, 2, 181, 0, 45, 42, 16, 24, 189, 0, 49]
abbrev dktX1_init_1 : List UInt8 := dkwX1_init_1 ++ dktX1_init_2
def dkwX1_init_0 : List UInt8 := [42, 183, 0, 26, 42, 17, 15, 160, 188, 8, 181, 0, 31, 42, 187, 0, 35, 89, 183, 0, 37, 181, 0, 38]
abbrev dktX1_init_0 : List UInt8 := dkwX1_init_0 ++ dktX1_init_1
theorem dksX1_init_0 : cX1_init.data.toList.drop 0 = dktX1_init_0 := by decide +kernel
theorem dksX1_init_1 : cX1_init.data.toList.drop 24 = dktX1_init_1 := dk_seg dksX1_init_0 24 rfl rfl
theorem dksX1_init_2 : cX1_init.data.toList.drop 46 = dktX1_init_2 := dk_seg dksX1_init_1 22 rfl rfl
theorem dksX1_init_3 : cX1_init.data.toList.drop 68 = dktX1_init_3 := dk_seg dksX1_init_2 22 rfl rfl
theorem dksX1_init_4 : cX1_init.data.toList.drop 90 = dktX1_init_4 := dk_seg dksX1_init_3 22 rfl rfl
theorem dksX1_init_5 : cX1_init.data.toList.drop 112 = dktX1_init_5 := dk_seg dksX1_init_4 22 rfl rfl
theorem dksX1_init_6 : cX1_init.data.toList.drop 134 = dktX1_init_6 := dk_seg dksX1_init_5 22 rfl rfl
theorem dksX1_init_7 : cX1_init.data.toList.drop 156 = dktX1_init_7 := dk_seg dksX1_init_6 22 rfl rfl
theorem dksX1_init_8 : cX1_init.data.toList.drop 180 = dktX1_init_8 := dk_seg dksX1_init_7 24 rfl rfl
theorem dX1_init_0 : decode cX1_init 0 = .ok (.aload_n 0, 1) := dk_42 (dk_at dksX1_init_0 0 rfl rfl)
theorem dX1_init_1 : decode cX1_init 1 = .ok (.invokespecial 26, 3) := dk_183 0 26 (dk_at dksX1_init_0 1 rfl rfl)
theorem dX1_init_4 : decode cX1_init 4 = .ok (.aload_n 0, 1) := dk_42 (dk_at dksX1_init_0 4 rfl rfl)
theorem dX1_init_5 : decode cX1_init 5 = .ok (.sipush 4000, 3) := dk_17 15 160 (dk_at dksX1_init_0 5 rfl rfl)
theorem dX1_init_8 : decode cX1_init 8 = .ok (.newarray .byte, 2) := dk_188_8 (dk_at dksX1_init_0 8 rfl rfl)
theorem dX1_init_10 : decode cX1_init 10 = .ok (.putfield 31, 3) := dk_181 0 31 (dk_at dksX1_init_0 10 rfl rfl)
theorem dX1_init_13 : decode cX1_init 13 = .ok (.aload_n 0, 1) := dk_42 (dk_at dksX1_init_0 13 rfl rfl)
theorem dX1_init_14 : decode cX1_init 14 = .ok (.new 35, 3) := dk_187 0 35 (dk_at dksX1_init_0 14 rfl rfl)
theorem dX1_init_17 : decode cX1_init 17 = .ok (.dup, 1) := dk_89 (dk_at dksX1_init_0 17 rfl rfl)
theorem dX1_init_18 : decode cX1_init 18 = .ok (.invokespecial 37, 3) := dk_183 0 37 (dk_at dksX1_init_0 18 rfl rfl)
theorem dX1_init_21 : decode cX1_init 21 = .ok (.putfield 38, 3) := dk_181 0 38 (dk_at dksX1_init_0 21 rfl rfl)
theorem dX1_init_24 : decode cX1_init 24 = .ok (.aload_n 0, 1) := dk_42 (dk_at dksX1_init_1 0 rfl rfl)
theorem dX1_init_25 : decode cX1_init 25 = .ok (.new 35, 3) := dk_187 0 35 (dk_at dksX1_init_1 1 rfl rfl)
theorem dX1_init_28 : decode cX1_init 28 = .ok (.dup, 1) := dk_89 (dk_at dksX1_init_1 4 rfl rfl)
theorem dX1_init_29 : decode cX1_init 29 = .ok (.invokespecial 37, 3) := dk_183 0 37 (dk_at dksX1_init_1 5 rfl rfl)
theorem dX1_init_32 : decode cX1_init 32 = .ok (.putfield 42, 3) := dk_181 0 42 (dk_at dksX1_init_1 8 rfl rfl)
theorem dX1_init_35 : decode cX1_init 35 = .ok (.aload_n 0, 1) := dk_42 (dk_at dksX1_init_1 11 rfl rfl)
theorem dX1_init_36 : decode cX1_init 36 = .ok (.iconst (-1), 1) := dk_2 (dk_at dksX1_init_1 12 rfl rfl)
theorem dX1_init_37 : decode cX1_init 37 = .ok (.putfield 45, 3) := dk_181 0 45 (dk_at dksX1_init_1 13 rfl rfl)
theorem dX1_init_40 : decode cX1_init 40 = .ok (.aload_n 0, 1) := dk_42 (dk_at dksX1_init_1 16 rfl rfl)
theorem dX1_init_41 : decode cX1_init 41 = .ok (.bipush 24, 2) := dk_16 24 (dk_at dksX1_init_1 17 rfl rfl)
theorem dX1_init_43 : decode cX1_init 43 = .ok (.anewarray 49, 3) := dk_189 0 49 (dk_at dksX1_init_1 19 rfl rfl)
theorem dX1_init_46 : decode cX1_init 46 = .ok (.putfield 51, 3) := dk_181 0 51 (dk_at dksX1_init_2 0 rfl rfl)
theorem dX1_init_49 : decode cX1_init 49 = .ok (.aload_n 0, 1) := dk_42 (dk_at dksX1_init_2 3 rfl rfl)
theorem dX1_init_50 : decode cX1_init 50 = .ok (.bipush 24, 2) := dk_16 24 (dk_at dksX1_init_2 4 rfl rfl)
theorem dX1_init_52 : decode cX1_init 52 = .ok (.newarray .int, 2) := dk_188_10 (dk_at dksX1_init_2 6 rfl rfl)
theorem dX1_init_54 : decode cX1_init 54 = .ok (.putfield 55, 3) := dk_181 0 55 (dk_at dksX1_init_2 8 rfl rfl)
theorem dX1_init_57 : decode cX1_init 57 = .ok (.aload_n 0, 1) := dk_42 (dk_at dksX1_init_2 11 rfl rfl)
theorem dX1_init_58 : decode cX1_init 58 = .ok (.sipush 504, 3) := dk_17 1 248 (dk_at dksX1_init_2 12 rfl rfl)
theorem dX1_init_61 : decode cX1_init 61 = .ok (.anewarray 49, 3) := dk_189 0 49 (dk_at dksX1_init_2 15 rfl rfl)
theorem dX1_init_64 : decode cX1_init 64 = .ok (.putfield 59, 3) := dk_181 0 59 (dk_at dksX1_init_2 18 rfl rfl)
theorem dX1_init_67 : decode cX1_init 67 = .ok (.aload_n 0, 1) := dk_42 (dk_at dksX1_init_2 21 rfl rfl)
theorem dX1_init_68 : decode cX1_init 68 = .ok (.new 62, 3) := dk_187 0 62 (dk_at dksX1_init_3 0 rfl rfl)
theorem dX1_init_71 : decode cX1_init 71 = .ok (.dup, 1) := dk_89 (dk_at dksX1_init_3 3 rfl rfl)
theorem dX1_init_72 : decode cX1_init 72 = .ok (.invokespecial 64, 3) := dk_183 0 64 (dk_at dksX1_init_3 4 rfl rfl)
theorem dX1_init_75 : decode cX1_init 75 = .ok (.putfield 65, 3) := dk_181 0 65 (dk_at dksX1_init_3 7 rfl rfl)
theorem dX1_init_78 : decode cX1_init 78 = .ok (.aload_n 0, 1) := dk_42 (dk_at dksX1_init_3 10 rfl rfl)
theorem dX1_init_79 : decode cX1_init 79 = .ok (.new 69, 3) := dk_187 0 69 (dk_at dksX1_init_3 11 rfl rfl)
theorem dX1_init_82 : decode cX1_init 82 = .ok (.dup, 1) := dk_89 (dk_at dksX1_init_3 14 rfl rfl)
theorem dX1_init_83 : decode cX1_init 83 = .ok (.invokespecial 71, 3) := dk_183 0 71 (dk_at dksX1_init_3 15 rfl rfl)
theorem dX1_init_86 : decode cX1_init 86 = .ok (.putfield 72, 3) := dk_181 0 72 (dk_at dksX1_init_3 18 rfl rfl)
theorem dX1_init_89 : decode cX1_init 89 = .ok (.aload_n 0, 1) := dk_42 (dk_at dksX1_init_3 21 rfl rfl)
theorem dX1_init_90 : decode cX1_init 90 = .ok (.new 76, 3) := dk_187 0 76 (dk_at dksX1_init_4 0 rfl rfl)
theorem dX1_init_93 : decode cX1_init 93 = .ok (.dup, 1) := dk_89 (dk_at dksX1_init_4 3 rfl rfl)
theorem dX1_init_94 : decode cX1_init 94 = .ok (.invokespecial 78, 3) := dk_183 0 78 (dk_at dksX1_init_4 4 rfl rfl)
theorem dX1_init_97 : decode cX1_init 97 = .ok (.putfield 79, 3) := dk_181 0 79 (dk_at dksX1_init_4 7 rfl rfl)
theorem dX1_init_100 : decode cX1_init 100 = .ok (.aload_n 0, 1) := dk_42 (dk_at dksX1_init_4 10 rfl rfl)
theorem dX1_init_101 : decode cX1_init 101 = .ok (.new 83, 3) := dk_187 0 83 (dk_at dksX1_init_4 11 rfl rfl)
theorem dX1_init_104 : decode cX1_init 104 = .ok (.dup, 1) := dk_89 (dk_at dksX1_init_4 14 rfl rfl)
theorem dX1_init_105 : decode cX1_init 105 = .ok (.invokespecial 85, 3) := dk_183 0 85 (dk_at dksX1_init_4 15 rfl rfl)
theorem dX1_init_108 : decode cX1_init 108 = .ok (.putfield 86, 3) := dk_181 0 86 (dk_at dksX1_init_4 18 rfl rfl)
theorem dX1_init_111 : decode cX1_init 111 = .ok (.aload_n 0, 1) := dk_42 (dk_at dksX1_init_4 21 rfl rfl)
theorem dX1_init_112 : decode cX1_init 112 = .ok (.new 90, 3) := dk_187 0 90 (dk_at dksX1_init_5 0 rfl rfl)
theorem dX1_init_115 : decode cX1_init 115 = .ok (.dup, 1) := dk_89 (dk_at dksX1_init_5 3 rfl rfl)
theorem dX1_init_116 : decode cX1_init 116 = .ok (.invokespecial 92, 3) := dk_183 0 92 (dk_at dksX1_init_5 4 rfl rfl)
theorem dX1_init_119 : decode cX1_init 119 = .ok (.putfield 93, 3) := dk_181 0 93 (dk_at dksX1_init_5 7 rfl rfl)
theorem dX1_init_122 : decode cX1_init 122 = .ok (.aload_n 0, 1) := dk_42 (dk_at dksX1_init_5 10 rfl rfl)
theorem dX1_init_123 : decode cX1_init 123 = .ok (.new 97, 3) := dk_187 0 97 (dk_at dksX1_init_5 11 rfl rfl)
theorem dX1_init_126 : decode cX1_init 126 = .ok (.dup, 1) := dk_89 (dk_at dksX1_init_5 14 rfl rfl)
theorem dX1_init_127 : decode cX1_init 127 = .ok (.aload_n 0, 1) := dk_42 (dk_at dksX1_init_5 15 rfl rfl)
theorem dX1_init_128 : decode cX1_init 128 = .ok (.getfield 93, 3) := dk_180 0 93 (dk_at dksX1_init_5 16 rfl rfl)
theorem dX1_init_131 : decode cX1_init 131 = .ok (.invokespecial 99, 3) := dk_183 0 99 (dk_at dksX1_init_5 19 rfl rfl)
theorem dX1_init_134 : decode cX1_init 134 = .ok (.putfield 102, 3) := dk_181 0 102 (dk_at dksX1_init_6 0 rfl rfl)
theorem dX1_init_137 : decode cX1_init 137 = .ok (.aload_n 0, 1) := dk_42 (dk_at dksX1_init_6 3 rfl rfl)
theorem dX1_init_138 : decode cX1_init 138 = .ok (.new 106, 3) := dk_187 0 106 (dk_at dksX1_init_6 4 rfl rfl)
theorem dX1_init_141 : decode cX1_init 141 = .ok (.dup, 1) := dk_89 (dk_at dksX1_init_6 7 rfl rfl)
theorem dX1_init_142 : decode cX1_init 142 = .ok (.invokespecial 108, 3) := dk_183 0 108 (dk_at dksX1_init_6 8 rfl rfl)
theorem dX1_init_145 : decode cX1_init 145 = .ok (.putfield 109, 3) := dk_181 0 109 (dk_at dksX1_init_6 11 rfl rfl)
theorem dX1_init_148 : decode cX1_init 148 = .ok (.aload_n 0, 1) := dk_42 (dk_at dksX1_init_6 14 rfl rfl)
theorem dX1_init_149 : decode cX1_init 149 = .ok (.new 113, 3) := dk_187 0 113 (dk_at dksX1_init_6 15 rfl rfl)
theorem dX1_init_152 : decode cX1_init 152 = .ok (.dup, 1) := dk_89 (dk_at dksX1_init_6 18 rfl rfl)
theorem dX1_init_153 : decode cX1_init 153 = .ok (.invokespecial 115, 3) := dk_183 0 115 (dk_at dksX1_init_6 19 rfl rfl)
theorem dX1_init_156 : decode cX1_init 156 = .ok (.putfield 116, 3) := dk_181 0 116 (dk_at dksX1_init_7 0 rfl rfl)
theorem dX1_init_159 : decode cX1_init 159 = .ok (.aload_n 0, 1) := dk_42 (dk_at dksX1_init_7 3 rfl rfl)
theorem dX1_init_160 : decode cX1_init 160 = .ok (.new 120, 3) := dk_187 0 120 (dk_at dksX1_init_7 4 rfl rfl)
theorem dX1_init_163 : decode cX1_init 163 = .ok (.dup, 1) := dk_89 (dk_at dksX1_init_7 7 rfl rfl)
theorem dX1_init_164 : decode cX1_init 164 = .ok (.aload_n 0, 1) := dk_42 (dk_at dksX1_init_7 8 rfl rfl)
theorem dX1_init_165 : decode cX1_init 165 = .ok (.getfield 51, 3) := dk_180 0 51 (dk_at dksX1_init_7 9 rfl rfl)
theorem dX1_init_168 : decode cX1_init 168 = .ok (.invokespecial 122, 3) := dk_183 0 122 (dk_at dksX1_init_7 12 rfl rfl)
theorem dX1_init_171 : decode cX1_init 171 = .ok (.putfield 125, 3) := dk_181 0 125 (dk_at dksX1_init_7 15 rfl rfl)
theorem dX1_init_174 : decode cX1_init 174 = .ok (.aload_n 0, 1) := dk_42 (dk_at dksX1_init_7 18 rfl rfl)
theorem dX1_init_175 : decode cX1_init 175 = .ok (.sipush 2000, 3) := dk_17 7 208 (dk_at dksX1_init_7 19 rfl rfl)
theorem dX1_init_178 : decode cX1_init 178 = .ok (.newarray .int, 2) := dk_188_10 (dk_at dksX1_init_7 22 rfl rfl)
theorem dX1_init_180 : decode cX1_init 180 = .ok (.putfield 129, 3) := dk_181 0 129 (dk_at dksX1_init_8 0 rfl rfl)
theorem dX1_init_183 : decode cX1_init 183 = .ok (.aload_n 0, 1) := dk_42 (dk_at dksX1_init_8 3 rfl rfl)
theorem dX1_init_184 : decode cX1_init 184 = .ok (.sipush 2000, 3) := dk_17 7 208 (dk_at dksX1_init_8 4 rfl rfl)
theorem dX1_init_187 : decode cX1_init 187 = .ok (.newarray .int, 2) := dk_188_10 (dk_at dksX1_init_8 7 rfl rfl)
theorem dX1_init_189 : decode cX1_init 189 = .ok (.putfield 132, 3) := dk_181 0 132 (dk_at dksX1_init_8 9 rfl rfl)
theorem dX1_init_192 : decode cX1_init 192 = .ok (.return_, 1) := dk_177 (dk_at dksX1_init_8 12 rfl rfl)
abbrev cX1_dead : ByteArray := prog_1_method_73_code
def yX1_dead : MethodName := ⟨RX1, "dead", "()I"⟩
def dkwX1_dead_0 : List UInt8 := [42, 180, 0, 125, 182, 2, 201, 172]
abbrev dktX1_dead_0 : List UInt8 := dkwX1_dead_0 ++ []
theorem dksX1_dead_0 : cX1_dead.data.toList.drop 0 = dktX1_dead_0 := by decide +kernel
theorem dX1_dead_0 : decode cX1_dead 0 = .ok (.aload_n 0, 1) := dk_42 (dk_at dksX1_dead_0 0 rfl rfl)
theorem dX1_dead_1 : decode cX1_dead 1 = .ok (.getfield 125, 3) := dk_180 0 125 (dk_at dksX1_dead_0 1 rfl rfl)
theorem dX1_dead_4 : decode cX1_dead 4 = .ok (.invokevirtual 713, 3) := dk_182 2 201 (dk_at dksX1_dead_0 4 rfl rfl)
theorem dX1_dead_7 : decode cX1_dead 7 = .ok (.ireturn, 1) := dk_172 (dk_at dksX1_dead_0 7 rfl rfl)
abbrev cX1_feed : ByteArray := prog_1_method_12_code
def yX1_feed : MethodName := ⟨RX1, "feed", "(IIIII)I"⟩
def dkwX1_feed_2 : List UInt8 := [182, 0, 142, 42, 180, 0, 135, 172]
abbrev dktX1_feed_2 : List UInt8 := dkwX1_feed_2 ++ []
def dkwX1_feed_1 : List UInt8 := [182, 0, 142, 42, 28, 182, 0, 142, 42, 29, 182, 0, 142, 42, 21, 4, 182, 0, 142, 42, 21, 5]
abbrev dktX1_feed_1 : List UInt8 := dkwX1_feed_1 ++ dktX1_feed_2
def dkwX1_feed_0 : List UInt8 := [42, 180, 0, 135, 16, 20, 96, 17, 15, 160, 163, 0, 7, 4, 167, 0, 4, 3, 184, 0, 138, 42, 27]
abbrev dktX1_feed_0 : List UInt8 := dkwX1_feed_0 ++ dktX1_feed_1
theorem dksX1_feed_0 : cX1_feed.data.toList.drop 0 = dktX1_feed_0 := by decide +kernel
theorem dksX1_feed_1 : cX1_feed.data.toList.drop 23 = dktX1_feed_1 := dk_seg dksX1_feed_0 23 rfl rfl
theorem dksX1_feed_2 : cX1_feed.data.toList.drop 45 = dktX1_feed_2 := dk_seg dksX1_feed_1 22 rfl rfl
theorem dX1_feed_0 : decode cX1_feed 0 = .ok (.aload_n 0, 1) := dk_42 (dk_at dksX1_feed_0 0 rfl rfl)
theorem dX1_feed_1 : decode cX1_feed 1 = .ok (.getfield 135, 3) := dk_180 0 135 (dk_at dksX1_feed_0 1 rfl rfl)
theorem dX1_feed_4 : decode cX1_feed 4 = .ok (.bipush 20, 2) := dk_16 20 (dk_at dksX1_feed_0 4 rfl rfl)
theorem dX1_feed_6 : decode cX1_feed 6 = .ok (.iadd, 1) := dk_96 (dk_at dksX1_feed_0 6 rfl rfl)
theorem dX1_feed_7 : decode cX1_feed 7 = .ok (.sipush 4000, 3) := dk_17 15 160 (dk_at dksX1_feed_0 7 rfl rfl)
theorem dX1_feed_10 : decode cX1_feed 10 = .ok (.if_icmp .gt 7, 3) := dk_163 0 7 (dk_at dksX1_feed_0 10 rfl rfl)
theorem dX1_feed_13 : decode cX1_feed 13 = .ok (.iconst 1, 1) := dk_4 (dk_at dksX1_feed_0 13 rfl rfl)
theorem dX1_feed_14 : decode cX1_feed 14 = .ok (.goto 4, 3) := dk_167 0 4 (dk_at dksX1_feed_0 14 rfl rfl)
theorem dX1_feed_17 : decode cX1_feed 17 = .ok (.iconst 0, 1) := dk_3 (dk_at dksX1_feed_0 17 rfl rfl)
theorem dX1_feed_18 : decode cX1_feed 18 = .ok (.invokestatic 138, 3) := dk_184 0 138 (dk_at dksX1_feed_0 18 rfl rfl)
theorem dX1_feed_21 : decode cX1_feed 21 = .ok (.aload_n 0, 1) := dk_42 (dk_at dksX1_feed_0 21 rfl rfl)
theorem dX1_feed_22 : decode cX1_feed 22 = .ok (.iload_n 1, 1) := dk_27 (dk_at dksX1_feed_0 22 rfl rfl)
theorem dX1_feed_23 : decode cX1_feed 23 = .ok (.invokevirtual 142, 3) := dk_182 0 142 (dk_at dksX1_feed_1 0 rfl rfl)
theorem dX1_feed_26 : decode cX1_feed 26 = .ok (.aload_n 0, 1) := dk_42 (dk_at dksX1_feed_1 3 rfl rfl)
theorem dX1_feed_27 : decode cX1_feed 27 = .ok (.iload_n 2, 1) := dk_28 (dk_at dksX1_feed_1 4 rfl rfl)
theorem dX1_feed_28 : decode cX1_feed 28 = .ok (.invokevirtual 142, 3) := dk_182 0 142 (dk_at dksX1_feed_1 5 rfl rfl)
theorem dX1_feed_31 : decode cX1_feed 31 = .ok (.aload_n 0, 1) := dk_42 (dk_at dksX1_feed_1 8 rfl rfl)
theorem dX1_feed_32 : decode cX1_feed 32 = .ok (.iload_n 3, 1) := dk_29 (dk_at dksX1_feed_1 9 rfl rfl)
theorem dX1_feed_33 : decode cX1_feed 33 = .ok (.invokevirtual 142, 3) := dk_182 0 142 (dk_at dksX1_feed_1 10 rfl rfl)
theorem dX1_feed_36 : decode cX1_feed 36 = .ok (.aload_n 0, 1) := dk_42 (dk_at dksX1_feed_1 13 rfl rfl)
theorem dX1_feed_37 : decode cX1_feed 37 = .ok (.iload 4, 2) := dk_21 4 (dk_at dksX1_feed_1 14 rfl rfl)
theorem dX1_feed_39 : decode cX1_feed 39 = .ok (.invokevirtual 142, 3) := dk_182 0 142 (dk_at dksX1_feed_1 16 rfl rfl)
theorem dX1_feed_42 : decode cX1_feed 42 = .ok (.aload_n 0, 1) := dk_42 (dk_at dksX1_feed_1 19 rfl rfl)
theorem dX1_feed_43 : decode cX1_feed 43 = .ok (.iload 5, 2) := dk_21 5 (dk_at dksX1_feed_1 20 rfl rfl)
theorem dX1_feed_45 : decode cX1_feed 45 = .ok (.invokevirtual 142, 3) := dk_182 0 142 (dk_at dksX1_feed_2 0 rfl rfl)
theorem dX1_feed_48 : decode cX1_feed 48 = .ok (.aload_n 0, 1) := dk_42 (dk_at dksX1_feed_2 3 rfl rfl)
theorem dX1_feed_49 : decode cX1_feed 49 = .ok (.getfield 135, 3) := dk_180 0 135 (dk_at dksX1_feed_2 4 rfl rfl)
theorem dX1_feed_52 : decode cX1_feed 52 = .ok (.ireturn, 1) := dk_172 (dk_at dksX1_feed_2 7 rfl rfl)
abbrev cX1_within : ByteArray := prog_1_method_6_code
def yX1_within : MethodName := ⟨RX1, "within", "(Z)V"⟩
def dkwX1_within_0 : List UInt8 := [26, 154, 0, 11, 187, 0, 19, 89, 183, 0, 21, 191, 177]
abbrev dktX1_within_0 : List UInt8 := dkwX1_within_0 ++ []
theorem dksX1_within_0 : cX1_within.data.toList.drop 0 = dktX1_within_0 := by decide +kernel
theorem dX1_within_0 : decode cX1_within 0 = .ok (.iload_n 0, 1) := dk_26 (dk_at dksX1_within_0 0 rfl rfl)
theorem dX1_within_1 : decode cX1_within 1 = .ok (.ifCond .ne 11, 3) := dk_154 0 11 (dk_at dksX1_within_0 1 rfl rfl)
theorem dX1_within_4 : decode cX1_within 4 = .ok (.new 19, 3) := dk_187 0 19 (dk_at dksX1_within_0 4 rfl rfl)
theorem dX1_within_7 : decode cX1_within 7 = .ok (.dup, 1) := dk_89 (dk_at dksX1_within_0 7 rfl rfl)
theorem dX1_within_8 : decode cX1_within 8 = .ok (.invokespecial 21, 3) := dk_183 0 21 (dk_at dksX1_within_0 8 rfl rfl)
theorem dX1_within_11 : decode cX1_within 11 = .ok (.athrow, 1) := dk_191 (dk_at dksX1_within_0 11 rfl rfl)
theorem dX1_within_12 : decode cX1_within 12 = .ok (.return_, 1) := dk_177 (dk_at dksX1_within_0 12 rfl rfl)
abbrev cX1_four : ByteArray := prog_1_method_13_code
def yX1_four : MethodName := ⟨RX1, "fou\x72", "(I)V"⟩
def dkwX1_four_1 : List UInt8 := [180, 0, 135, 4, 96, 181, 0, 135, 132, 2, 248, 167, 255, 226, 177]
abbrev dktX1_four_1 : List UInt8 := dkwX1_four_1 ++ []
def dkwX1_four_0 : List UInt8 := [16, 24, 61, 28, 155, 0, 32, 42, 180, 0, 31, 42, 180, 0, 135, 27, 28, 122, 145, 84, 42, 89]
abbrev dktX1_four_0 : List UInt8 := dkwX1_four_0 ++ dktX1_four_1
theorem dksX1_four_0 : cX1_four.data.toList.drop 0 = dktX1_four_0 := by decide +kernel
theorem dksX1_four_1 : cX1_four.data.toList.drop 22 = dktX1_four_1 := dk_seg dksX1_four_0 22 rfl rfl
theorem dX1_four_0 : decode cX1_four 0 = .ok (.bipush 24, 2) := dk_16 24 (dk_at dksX1_four_0 0 rfl rfl)
theorem dX1_four_2 : decode cX1_four 2 = .ok (.istore_n 2, 1) := dk_61 (dk_at dksX1_four_0 2 rfl rfl)
theorem dX1_four_3 : decode cX1_four 3 = .ok (.iload_n 2, 1) := dk_28 (dk_at dksX1_four_0 3 rfl rfl)
theorem dX1_four_4 : decode cX1_four 4 = .ok (.ifCond .lt 32, 3) := dk_155 0 32 (dk_at dksX1_four_0 4 rfl rfl)
theorem dX1_four_7 : decode cX1_four 7 = .ok (.aload_n 0, 1) := dk_42 (dk_at dksX1_four_0 7 rfl rfl)
theorem dX1_four_8 : decode cX1_four 8 = .ok (.getfield 31, 3) := dk_180 0 31 (dk_at dksX1_four_0 8 rfl rfl)
theorem dX1_four_11 : decode cX1_four 11 = .ok (.aload_n 0, 1) := dk_42 (dk_at dksX1_four_0 11 rfl rfl)
theorem dX1_four_12 : decode cX1_four 12 = .ok (.getfield 135, 3) := dk_180 0 135 (dk_at dksX1_four_0 12 rfl rfl)
theorem dX1_four_15 : decode cX1_four 15 = .ok (.iload_n 1, 1) := dk_27 (dk_at dksX1_four_0 15 rfl rfl)
theorem dX1_four_16 : decode cX1_four 16 = .ok (.iload_n 2, 1) := dk_28 (dk_at dksX1_four_0 16 rfl rfl)
theorem dX1_four_17 : decode cX1_four 17 = .ok (.ishr, 1) := dk_122 (dk_at dksX1_four_0 17 rfl rfl)
theorem dX1_four_18 : decode cX1_four 18 = .ok (.i2b, 1) := dk_145 (dk_at dksX1_four_0 18 rfl rfl)
theorem dX1_four_19 : decode cX1_four 19 = .ok (.bastore, 1) := dk_84 (dk_at dksX1_four_0 19 rfl rfl)
theorem dX1_four_20 : decode cX1_four 20 = .ok (.aload_n 0, 1) := dk_42 (dk_at dksX1_four_0 20 rfl rfl)
theorem dX1_four_21 : decode cX1_four 21 = .ok (.dup, 1) := dk_89 (dk_at dksX1_four_0 21 rfl rfl)
theorem dX1_four_22 : decode cX1_four 22 = .ok (.getfield 135, 3) := dk_180 0 135 (dk_at dksX1_four_1 0 rfl rfl)
theorem dX1_four_25 : decode cX1_four 25 = .ok (.iconst 1, 1) := dk_4 (dk_at dksX1_four_1 3 rfl rfl)
theorem dX1_four_26 : decode cX1_four 26 = .ok (.iadd, 1) := dk_96 (dk_at dksX1_four_1 4 rfl rfl)
theorem dX1_four_27 : decode cX1_four 27 = .ok (.putfield 135, 3) := dk_181 0 135 (dk_at dksX1_four_1 5 rfl rfl)
theorem dX1_four_30 : decode cX1_four 30 = .ok (.iinc 2 (-8), 3) := dk_132 2 248 (dk_at dksX1_four_1 8 rfl rfl)
theorem dX1_four_33 : decode cX1_four 33 = .ok (.goto (-30), 3) := dk_167 255 226 (dk_at dksX1_four_1 11 rfl rfl)
theorem dX1_four_36 : decode cX1_four 36 = .ok (.return_, 1) := dk_177 (dk_at dksX1_four_1 14 rfl rfl)
abbrev cX1_end : ByteArray := prog_1_method_14_code
def yX1_end : MethodName := ⟨RX1, "end", "(I)I"⟩
def dkwX1_end_1 : List UInt8 := [181, 0, 135, 27, 172]
abbrev dktX1_end_1 : List UInt8 := dkwX1_end_1 ++ []
def dkwX1_end_0 : List UInt8 := [27, 155, 0, 15, 27, 42, 180, 0, 135, 163, 0, 7, 4, 167, 0, 4, 3, 184, 0, 146, 42, 27]
abbrev dktX1_end_0 : List UInt8 := dkwX1_end_0 ++ dktX1_end_1
theorem dksX1_end_0 : cX1_end.data.toList.drop 0 = dktX1_end_0 := by decide +kernel
theorem dksX1_end_1 : cX1_end.data.toList.drop 22 = dktX1_end_1 := dk_seg dksX1_end_0 22 rfl rfl
theorem dX1_end_0 : decode cX1_end 0 = .ok (.iload_n 1, 1) := dk_27 (dk_at dksX1_end_0 0 rfl rfl)
theorem dX1_end_1 : decode cX1_end 1 = .ok (.ifCond .lt 15, 3) := dk_155 0 15 (dk_at dksX1_end_0 1 rfl rfl)
theorem dX1_end_4 : decode cX1_end 4 = .ok (.iload_n 1, 1) := dk_27 (dk_at dksX1_end_0 4 rfl rfl)
theorem dX1_end_5 : decode cX1_end 5 = .ok (.aload_n 0, 1) := dk_42 (dk_at dksX1_end_0 5 rfl rfl)
theorem dX1_end_6 : decode cX1_end 6 = .ok (.getfield 135, 3) := dk_180 0 135 (dk_at dksX1_end_0 6 rfl rfl)
theorem dX1_end_9 : decode cX1_end 9 = .ok (.if_icmp .gt 7, 3) := dk_163 0 7 (dk_at dksX1_end_0 9 rfl rfl)
theorem dX1_end_12 : decode cX1_end 12 = .ok (.iconst 1, 1) := dk_4 (dk_at dksX1_end_0 12 rfl rfl)
theorem dX1_end_13 : decode cX1_end 13 = .ok (.goto 4, 3) := dk_167 0 4 (dk_at dksX1_end_0 13 rfl rfl)
theorem dX1_end_16 : decode cX1_end 16 = .ok (.iconst 0, 1) := dk_3 (dk_at dksX1_end_0 16 rfl rfl)
theorem dX1_end_17 : decode cX1_end 17 = .ok (.invokestatic 146, 3) := dk_184 0 146 (dk_at dksX1_end_0 17 rfl rfl)
theorem dX1_end_20 : decode cX1_end 20 = .ok (.aload_n 0, 1) := dk_42 (dk_at dksX1_end_0 20 rfl rfl)
theorem dX1_end_21 : decode cX1_end 21 = .ok (.iload_n 1, 1) := dk_27 (dk_at dksX1_end_0 21 rfl rfl)
theorem dX1_end_22 : decode cX1_end 22 = .ok (.putfield 135, 3) := dk_181 0 135 (dk_at dksX1_end_1 0 rfl rfl)
theorem dX1_end_25 : decode cX1_end 25 = .ok (.iload_n 1, 1) := dk_27 (dk_at dksX1_end_1 3 rfl rfl)
theorem dX1_end_26 : decode cX1_end 26 = .ok (.ireturn, 1) := dk_172 (dk_at dksX1_end_1 4 rfl rfl)
abbrev cX1_good : ByteArray := prog_1_method_1_code
def yX1_good : MethodName := ⟨RX1, "good", "(Z)V"⟩
def dkwX1_good_0 : List UInt8 := [26, 154, 0, 11, 187, 0, 1, 89, 183, 0, 3, 191, 177]
abbrev dktX1_good_0 : List UInt8 := dkwX1_good_0 ++ []
theorem dksX1_good_0 : cX1_good.data.toList.drop 0 = dktX1_good_0 := by decide +kernel
theorem dX1_good_0 : decode cX1_good 0 = .ok (.iload_n 0, 1) := dk_26 (dk_at dksX1_good_0 0 rfl rfl)
theorem dX1_good_1 : decode cX1_good 1 = .ok (.ifCond .ne 11, 3) := dk_154 0 11 (dk_at dksX1_good_0 1 rfl rfl)
theorem dX1_good_4 : decode cX1_good 4 = .ok (.new 1, 3) := dk_187 0 1 (dk_at dksX1_good_0 4 rfl rfl)
theorem dX1_good_7 : decode cX1_good 7 = .ok (.dup, 1) := dk_89 (dk_at dksX1_good_0 7 rfl rfl)
theorem dX1_good_8 : decode cX1_good 8 = .ok (.invokespecial 3, 3) := dk_183 0 3 (dk_at dksX1_good_0 8 rfl rfl)
theorem dX1_good_11 : decode cX1_good 11 = .ok (.athrow, 1) := dk_191 (dk_at dksX1_good_0 11 rfl rfl)
theorem dX1_good_12 : decode cX1_good 12 = .ok (.return_, 1) := dk_177 (dk_at dksX1_good_0 12 rfl rfl)
abbrev cX1_make : ByteArray := prog_1_method_30_code
def yX1_make : MethodName := ⟨RX1, "make", "(III)I"⟩
def dkwX1_make_3 : List UInt8 := [29, 184, 1, 29, 42, 25, 5, 2, 182, 1, 32, 172]
abbrev dktX1_make_3 : List UInt8 := dkwX1_make_3 ++ []
def dkwX1_make_2 : List UInt8 := [28, 29, 184, 1, 22, 184, 0, 146, 42, 182, 0, 233, 54, 4, 42, 27, 182, 1, 26, 58, 5, 25, 5, 28]
abbrev dktX1_make_2 : List UInt8 := dkwX1_make_2 ++ dktX1_make_3
def dkwX1_make_1 : List UInt8 := [167, 0, 4, 3, 184, 0, 146, 27, 28, 184, 1, 15, 153, 0, 11, 187, 1, 19, 89, 183, 1, 21, 191, 27]
abbrev dktX1_make_1 : List UInt8 := dkwX1_make_1 ++ dktX1_make_2
def dkwX1_make_0 : List UInt8 := [27, 155, 0, 9, 27, 16, 7, 164, 0, 15, 27, 16, 11, 161, 0, 13, 27, 16, 19, 163, 0, 7, 4]
abbrev dktX1_make_0 : List UInt8 := dkwX1_make_0 ++ dktX1_make_1
theorem dksX1_make_0 : cX1_make.data.toList.drop 0 = dktX1_make_0 := by decide +kernel
theorem dksX1_make_1 : cX1_make.data.toList.drop 23 = dktX1_make_1 := dk_seg dksX1_make_0 23 rfl rfl
theorem dksX1_make_2 : cX1_make.data.toList.drop 47 = dktX1_make_2 := dk_seg dksX1_make_1 24 rfl rfl
theorem dksX1_make_3 : cX1_make.data.toList.drop 71 = dktX1_make_3 := dk_seg dksX1_make_2 24 rfl rfl
theorem dX1_make_0 : decode cX1_make 0 = .ok (.iload_n 1, 1) := dk_27 (dk_at dksX1_make_0 0 rfl rfl)
theorem dX1_make_1 : decode cX1_make 1 = .ok (.ifCond .lt 9, 3) := dk_155 0 9 (dk_at dksX1_make_0 1 rfl rfl)
theorem dX1_make_4 : decode cX1_make 4 = .ok (.iload_n 1, 1) := dk_27 (dk_at dksX1_make_0 4 rfl rfl)
theorem dX1_make_5 : decode cX1_make 5 = .ok (.bipush 7, 2) := dk_16 7 (dk_at dksX1_make_0 5 rfl rfl)
theorem dX1_make_7 : decode cX1_make 7 = .ok (.if_icmp .le 15, 3) := dk_164 0 15 (dk_at dksX1_make_0 7 rfl rfl)
theorem dX1_make_10 : decode cX1_make 10 = .ok (.iload_n 1, 1) := dk_27 (dk_at dksX1_make_0 10 rfl rfl)
theorem dX1_make_11 : decode cX1_make 11 = .ok (.bipush 11, 2) := dk_16 11 (dk_at dksX1_make_0 11 rfl rfl)
theorem dX1_make_13 : decode cX1_make 13 = .ok (.if_icmp .lt 13, 3) := dk_161 0 13 (dk_at dksX1_make_0 13 rfl rfl)
theorem dX1_make_16 : decode cX1_make 16 = .ok (.iload_n 1, 1) := dk_27 (dk_at dksX1_make_0 16 rfl rfl)
theorem dX1_make_17 : decode cX1_make 17 = .ok (.bipush 19, 2) := dk_16 19 (dk_at dksX1_make_0 17 rfl rfl)
theorem dX1_make_19 : decode cX1_make 19 = .ok (.if_icmp .gt 7, 3) := dk_163 0 7 (dk_at dksX1_make_0 19 rfl rfl)
theorem dX1_make_22 : decode cX1_make 22 = .ok (.iconst 1, 1) := dk_4 (dk_at dksX1_make_0 22 rfl rfl)
theorem dX1_make_23 : decode cX1_make 23 = .ok (.goto 4, 3) := dk_167 0 4 (dk_at dksX1_make_1 0 rfl rfl)
theorem dX1_make_26 : decode cX1_make 26 = .ok (.iconst 0, 1) := dk_3 (dk_at dksX1_make_1 3 rfl rfl)
theorem dX1_make_27 : decode cX1_make 27 = .ok (.invokestatic 146, 3) := dk_184 0 146 (dk_at dksX1_make_1 4 rfl rfl)
theorem dX1_make_30 : decode cX1_make 30 = .ok (.iload_n 1, 1) := dk_27 (dk_at dksX1_make_1 7 rfl rfl)
theorem dX1_make_31 : decode cX1_make 31 = .ok (.iload_n 2, 1) := dk_28 (dk_at dksX1_make_1 8 rfl rfl)
theorem dX1_make_32 : decode cX1_make 32 = .ok (.invokestatic 271, 3) := dk_184 1 15 (dk_at dksX1_make_1 9 rfl rfl)
theorem dX1_make_35 : decode cX1_make 35 = .ok (.ifCond .eq 11, 3) := dk_153 0 11 (dk_at dksX1_make_1 12 rfl rfl)
theorem dX1_make_38 : decode cX1_make 38 = .ok (.new 275, 3) := dk_187 1 19 (dk_at dksX1_make_1 15 rfl rfl)
theorem dX1_make_41 : decode cX1_make 41 = .ok (.dup, 1) := dk_89 (dk_at dksX1_make_1 18 rfl rfl)
theorem dX1_make_42 : decode cX1_make 42 = .ok (.invokespecial 277, 3) := dk_183 1 21 (dk_at dksX1_make_1 19 rfl rfl)
theorem dX1_make_45 : decode cX1_make 45 = .ok (.athrow, 1) := dk_191 (dk_at dksX1_make_1 22 rfl rfl)
theorem dX1_make_46 : decode cX1_make 46 = .ok (.iload_n 1, 1) := dk_27 (dk_at dksX1_make_1 23 rfl rfl)
theorem dX1_make_47 : decode cX1_make 47 = .ok (.iload_n 2, 1) := dk_28 (dk_at dksX1_make_2 0 rfl rfl)
theorem dX1_make_48 : decode cX1_make 48 = .ok (.iload_n 3, 1) := dk_29 (dk_at dksX1_make_2 1 rfl rfl)
theorem dX1_make_49 : decode cX1_make 49 = .ok (.invokestatic 278, 3) := dk_184 1 22 (dk_at dksX1_make_2 2 rfl rfl)
theorem dX1_make_52 : decode cX1_make 52 = .ok (.invokestatic 146, 3) := dk_184 0 146 (dk_at dksX1_make_2 5 rfl rfl)
theorem dX1_make_55 : decode cX1_make 55 = .ok (.aload_n 0, 1) := dk_42 (dk_at dksX1_make_2 8 rfl rfl)
theorem dX1_make_56 : decode cX1_make 56 = .ok (.invokevirtual 233, 3) := dk_182 0 233 (dk_at dksX1_make_2 9 rfl rfl)
theorem dX1_make_59 : decode cX1_make 59 = .ok (.istore 4, 2) := dk_54 4 (dk_at dksX1_make_2 12 rfl rfl)
theorem dX1_make_61 : decode cX1_make 61 = .ok (.aload_n 0, 1) := dk_42 (dk_at dksX1_make_2 14 rfl rfl)
theorem dX1_make_62 : decode cX1_make 62 = .ok (.iload_n 1, 1) := dk_27 (dk_at dksX1_make_2 15 rfl rfl)
theorem dX1_make_63 : decode cX1_make 63 = .ok (.invokevirtual 282, 3) := dk_182 1 26 (dk_at dksX1_make_2 16 rfl rfl)
theorem dX1_make_66 : decode cX1_make 66 = .ok (.astore 5, 2) := dk_58 5 (dk_at dksX1_make_2 19 rfl rfl)
theorem dX1_make_68 : decode cX1_make 68 = .ok (.aload 5, 2) := dk_25 5 (dk_at dksX1_make_2 21 rfl rfl)
theorem dX1_make_70 : decode cX1_make 70 = .ok (.iload_n 2, 1) := dk_28 (dk_at dksX1_make_2 23 rfl rfl)
theorem dX1_make_71 : decode cX1_make 71 = .ok (.iload_n 3, 1) := dk_29 (dk_at dksX1_make_3 0 rfl rfl)
theorem dX1_make_72 : decode cX1_make 72 = .ok (.invokestatic 285, 3) := dk_184 1 29 (dk_at dksX1_make_3 1 rfl rfl)
theorem dX1_make_75 : decode cX1_make 75 = .ok (.aload_n 0, 1) := dk_42 (dk_at dksX1_make_3 4 rfl rfl)
theorem dX1_make_76 : decode cX1_make 76 = .ok (.aload 5, 2) := dk_25 5 (dk_at dksX1_make_3 5 rfl rfl)
theorem dX1_make_78 : decode cX1_make 78 = .ok (.iconst (-1), 1) := dk_2 (dk_at dksX1_make_3 7 rfl rfl)
theorem dX1_make_79 : decode cX1_make 79 = .ok (.invokevirtual 288, 3) := dk_182 1 32 (dk_at dksX1_make_3 8 rfl rfl)
theorem dX1_make_82 : decode cX1_make 82 = .ok (.ireturn, 1) := dk_172 (dk_at dksX1_make_3 11 rfl rfl)
abbrev cX1_isNegative : ByteArray := prog_1_method_27_code
def yX1_isNegative : MethodName := ⟨RX1, "isNegative", "(II)Z"⟩
def dkwX1_isNegative_0 : List UInt8 := [26, 153, 0, 13, 26, 4, 159, 0, 8, 26, 5, 160, 0, 11, 27, 156, 0, 7, 4, 167, 0, 4, 3, 172]
abbrev dktX1_isNegative_0 : List UInt8 := dkwX1_isNegative_0 ++ []
theorem dksX1_isNegative_0 : cX1_isNegative.data.toList.drop 0 = dktX1_isNegative_0 := by decide +kernel
theorem dX1_isNegative_0 : decode cX1_isNegative 0 = .ok (.iload_n 0, 1) := dk_26 (dk_at dksX1_isNegative_0 0 rfl rfl)
theorem dX1_isNegative_1 : decode cX1_isNegative 1 = .ok (.ifCond .eq 13, 3) := dk_153 0 13 (dk_at dksX1_isNegative_0 1 rfl rfl)
theorem dX1_isNegative_4 : decode cX1_isNegative 4 = .ok (.iload_n 0, 1) := dk_26 (dk_at dksX1_isNegative_0 4 rfl rfl)
theorem dX1_isNegative_5 : decode cX1_isNegative 5 = .ok (.iconst 1, 1) := dk_4 (dk_at dksX1_isNegative_0 5 rfl rfl)
theorem dX1_isNegative_6 : decode cX1_isNegative 6 = .ok (.if_icmp .eq 8, 3) := dk_159 0 8 (dk_at dksX1_isNegative_0 6 rfl rfl)
theorem dX1_isNegative_9 : decode cX1_isNegative 9 = .ok (.iload_n 0, 1) := dk_26 (dk_at dksX1_isNegative_0 9 rfl rfl)
theorem dX1_isNegative_10 : decode cX1_isNegative 10 = .ok (.iconst 2, 1) := dk_5 (dk_at dksX1_isNegative_0 10 rfl rfl)
theorem dX1_isNegative_11 : decode cX1_isNegative 11 = .ok (.if_icmp .ne 11, 3) := dk_160 0 11 (dk_at dksX1_isNegative_0 11 rfl rfl)
theorem dX1_isNegative_14 : decode cX1_isNegative 14 = .ok (.iload_n 1, 1) := dk_27 (dk_at dksX1_isNegative_0 14 rfl rfl)
theorem dX1_isNegative_15 : decode cX1_isNegative 15 = .ok (.ifCond .ge 7, 3) := dk_156 0 7 (dk_at dksX1_isNegative_0 15 rfl rfl)
theorem dX1_isNegative_18 : decode cX1_isNegative 18 = .ok (.iconst 1, 1) := dk_4 (dk_at dksX1_isNegative_0 18 rfl rfl)
theorem dX1_isNegative_19 : decode cX1_isNegative 19 = .ok (.goto 4, 3) := dk_167 0 4 (dk_at dksX1_isNegative_0 19 rfl rfl)
theorem dX1_isNegative_22 : decode cX1_isNegative 22 = .ok (.iconst 0, 1) := dk_3 (dk_at dksX1_isNegative_0 22 rfl rfl)
theorem dX1_isNegative_23 : decode cX1_isNegative 23 = .ok (.ireturn, 1) := dk_172 (dk_at dksX1_isNegative_0 23 rfl rfl)
abbrev cX1_isFit : ByteArray := prog_1_method_28_code
def yX1_isFit : MethodName := ⟨RX1, "isFit", "(III)Z"⟩
def dkwX1_isFit_8 : List UInt8 := [167, 0, 4, 3, 172, 27, 4, 161, 0, 13, 27, 16, 100, 163, 0, 7, 4, 167, 0, 4, 3, 172, 4, 172]
abbrev dktX1_isFit_8 : List UInt8 := dkwX1_isFit_8 ++ []
def dkwX1_isFit_7 : List UInt8 := [27, 155, 0, 7, 4, 167, 0, 4, 3, 172, 27, 4, 161, 0, 13, 27, 16, 8, 163, 0, 7, 4]
abbrev dktX1_isFit_7 : List UInt8 := dkwX1_isFit_7 ++ dktX1_isFit_8
def dkwX1_isFit_6 : List UInt8 := [163, 0, 7, 4, 167, 0, 4, 3, 172, 28, 153, 0, 8, 28, 4, 160, 0, 7, 4, 167, 0, 4, 3, 172]
abbrev dktX1_isFit_6 : List UInt8 := dkwX1_isFit_6 ++ dktX1_isFit_7
def dkwX1_isFit_5 : List UInt8 := [167, 0, 4, 3, 172, 27, 4, 161, 0, 23, 27, 17, 3, 232, 163, 0, 16, 28, 155, 0, 12, 28, 6]
abbrev dktX1_isFit_5 : List UInt8 := dkwX1_isFit_5 ++ dktX1_isFit_6
def dkwX1_isFit_4 : List UInt8 := [155, 0, 12, 28, 4, 163, 0, 7, 4, 167, 0, 4, 3, 172, 27, 155, 0, 12, 27, 6, 163, 0, 7, 4]
abbrev dktX1_isFit_4 : List UInt8 := dkwX1_isFit_4 ++ dktX1_isFit_5
def dkwX1_isFit_3 : List UInt8 := [28, 6, 163, 0, 7, 4, 167, 0, 4, 3, 172, 27, 155, 0, 23, 27, 17, 3, 232, 163, 0, 16, 28]
abbrev dktX1_isFit_3 : List UInt8 := dkwX1_isFit_3 ++ dktX1_isFit_4
def dkwX1_isFit_2 : List UInt8 := [27, 17, 3, 232, 163, 0, 7, 4, 167, 0, 4, 3, 172, 27, 17, 3, 232, 163, 0, 16, 28, 155, 0, 12]
abbrev dktX1_isFit_2 : List UInt8 := dkwX1_isFit_2 ++ dktX1_isFit_3
def dkwX1_isFit_1 : List UInt8 := [170, 0, 0, 0, 0, 0, 249, 0, 0, 0, 0, 0, 0, 0, 17, 0, 0, 0, 87, 0, 0, 0, 87, 0, 0, 0, 100, 0, 0, 0, 122, 0, 0, 0, 148, 0, 0, 0, 163, 0, 0, 0, 249, 0, 0, 0, 249, 0, 0, 0, 249, 0, 0, 0, 249, 0, 0, 0, 249, 0, 0, 0, 249, 0, 0, 0, 249, 0, 0, 0, 190, 0, 0, 0, 249, 0, 0, 0, 205, 0, 0, 0, 215, 0, 0, 0, 232]
abbrev dktX1_isFit_1 : List UInt8 := dkwX1_isFit_1 ++ dktX1_isFit_2
def dkwX1_isFit_0 : List UInt8 := [26]
abbrev dktX1_isFit_0 : List UInt8 := dkwX1_isFit_0 ++ dktX1_isFit_1
theorem dksX1_isFit_0 : cX1_isFit.data.toList.drop 0 = dktX1_isFit_0 := by decide +kernel
theorem dksX1_isFit_1 : cX1_isFit.data.toList.drop 1 = dktX1_isFit_1 := dk_seg dksX1_isFit_0 1 rfl rfl
theorem dksX1_isFit_2 : cX1_isFit.data.toList.drop 88 = dktX1_isFit_2 := dk_seg dksX1_isFit_1 87 rfl rfl
theorem dksX1_isFit_3 : cX1_isFit.data.toList.drop 112 = dktX1_isFit_3 := dk_seg dksX1_isFit_2 24 rfl rfl
theorem dksX1_isFit_4 : cX1_isFit.data.toList.drop 135 = dktX1_isFit_4 := dk_seg dksX1_isFit_3 23 rfl rfl
theorem dksX1_isFit_5 : cX1_isFit.data.toList.drop 159 = dktX1_isFit_5 := dk_seg dksX1_isFit_4 24 rfl rfl
theorem dksX1_isFit_6 : cX1_isFit.data.toList.drop 182 = dktX1_isFit_6 := dk_seg dksX1_isFit_5 23 rfl rfl
theorem dksX1_isFit_7 : cX1_isFit.data.toList.drop 206 = dktX1_isFit_7 := dk_seg dksX1_isFit_6 24 rfl rfl
theorem dksX1_isFit_8 : cX1_isFit.data.toList.drop 228 = dktX1_isFit_8 := dk_seg dksX1_isFit_7 22 rfl rfl
theorem dX1_isFit_0 : decode cX1_isFit 0 = .ok (.iload_n 0, 1) := dk_26 (dk_at dksX1_isFit_0 0 rfl rfl)
theorem dX1_isFit_1 : decode cX1_isFit 1 = .ok (.tableswitch 249 0 17 #[87, 87, 100, 122, 148, 163, 249, 249, 249, 249, 249, 249, 249, 190, 249, 205, 215, 232], 87) := by decide +kernel
theorem dX1_isFit_88 : decode cX1_isFit 88 = .ok (.iload_n 1, 1) := dk_27 (dk_at dksX1_isFit_2 0 rfl rfl)
theorem dX1_isFit_89 : decode cX1_isFit 89 = .ok (.sipush 1000, 3) := dk_17 3 232 (dk_at dksX1_isFit_2 1 rfl rfl)
theorem dX1_isFit_92 : decode cX1_isFit 92 = .ok (.if_icmp .gt 7, 3) := dk_163 0 7 (dk_at dksX1_isFit_2 4 rfl rfl)
theorem dX1_isFit_95 : decode cX1_isFit 95 = .ok (.iconst 1, 1) := dk_4 (dk_at dksX1_isFit_2 7 rfl rfl)
theorem dX1_isFit_96 : decode cX1_isFit 96 = .ok (.goto 4, 3) := dk_167 0 4 (dk_at dksX1_isFit_2 8 rfl rfl)
theorem dX1_isFit_99 : decode cX1_isFit 99 = .ok (.iconst 0, 1) := dk_3 (dk_at dksX1_isFit_2 11 rfl rfl)
theorem dX1_isFit_100 : decode cX1_isFit 100 = .ok (.ireturn, 1) := dk_172 (dk_at dksX1_isFit_2 12 rfl rfl)
theorem dX1_isFit_101 : decode cX1_isFit 101 = .ok (.iload_n 1, 1) := dk_27 (dk_at dksX1_isFit_2 13 rfl rfl)
theorem dX1_isFit_102 : decode cX1_isFit 102 = .ok (.sipush 1000, 3) := dk_17 3 232 (dk_at dksX1_isFit_2 14 rfl rfl)
theorem dX1_isFit_105 : decode cX1_isFit 105 = .ok (.if_icmp .gt 16, 3) := dk_163 0 16 (dk_at dksX1_isFit_2 17 rfl rfl)
theorem dX1_isFit_108 : decode cX1_isFit 108 = .ok (.iload_n 2, 1) := dk_28 (dk_at dksX1_isFit_2 20 rfl rfl)
theorem dX1_isFit_109 : decode cX1_isFit 109 = .ok (.ifCond .lt 12, 3) := dk_155 0 12 (dk_at dksX1_isFit_2 21 rfl rfl)
theorem dX1_isFit_112 : decode cX1_isFit 112 = .ok (.iload_n 2, 1) := dk_28 (dk_at dksX1_isFit_3 0 rfl rfl)
theorem dX1_isFit_113 : decode cX1_isFit 113 = .ok (.iconst 3, 1) := dk_6 (dk_at dksX1_isFit_3 1 rfl rfl)
theorem dX1_isFit_114 : decode cX1_isFit 114 = .ok (.if_icmp .gt 7, 3) := dk_163 0 7 (dk_at dksX1_isFit_3 2 rfl rfl)
theorem dX1_isFit_117 : decode cX1_isFit 117 = .ok (.iconst 1, 1) := dk_4 (dk_at dksX1_isFit_3 5 rfl rfl)
theorem dX1_isFit_118 : decode cX1_isFit 118 = .ok (.goto 4, 3) := dk_167 0 4 (dk_at dksX1_isFit_3 6 rfl rfl)
theorem dX1_isFit_121 : decode cX1_isFit 121 = .ok (.iconst 0, 1) := dk_3 (dk_at dksX1_isFit_3 9 rfl rfl)
theorem dX1_isFit_122 : decode cX1_isFit 122 = .ok (.ireturn, 1) := dk_172 (dk_at dksX1_isFit_3 10 rfl rfl)
theorem dX1_isFit_123 : decode cX1_isFit 123 = .ok (.iload_n 1, 1) := dk_27 (dk_at dksX1_isFit_3 11 rfl rfl)
theorem dX1_isFit_124 : decode cX1_isFit 124 = .ok (.ifCond .lt 23, 3) := dk_155 0 23 (dk_at dksX1_isFit_3 12 rfl rfl)
theorem dX1_isFit_127 : decode cX1_isFit 127 = .ok (.iload_n 1, 1) := dk_27 (dk_at dksX1_isFit_3 15 rfl rfl)
theorem dX1_isFit_128 : decode cX1_isFit 128 = .ok (.sipush 1000, 3) := dk_17 3 232 (dk_at dksX1_isFit_3 16 rfl rfl)
theorem dX1_isFit_131 : decode cX1_isFit 131 = .ok (.if_icmp .gt 16, 3) := dk_163 0 16 (dk_at dksX1_isFit_3 19 rfl rfl)
theorem dX1_isFit_134 : decode cX1_isFit 134 = .ok (.iload_n 2, 1) := dk_28 (dk_at dksX1_isFit_3 22 rfl rfl)
theorem dX1_isFit_135 : decode cX1_isFit 135 = .ok (.ifCond .lt 12, 3) := dk_155 0 12 (dk_at dksX1_isFit_4 0 rfl rfl)
theorem dX1_isFit_138 : decode cX1_isFit 138 = .ok (.iload_n 2, 1) := dk_28 (dk_at dksX1_isFit_4 3 rfl rfl)
theorem dX1_isFit_139 : decode cX1_isFit 139 = .ok (.iconst 1, 1) := dk_4 (dk_at dksX1_isFit_4 4 rfl rfl)
theorem dX1_isFit_140 : decode cX1_isFit 140 = .ok (.if_icmp .gt 7, 3) := dk_163 0 7 (dk_at dksX1_isFit_4 5 rfl rfl)
theorem dX1_isFit_143 : decode cX1_isFit 143 = .ok (.iconst 1, 1) := dk_4 (dk_at dksX1_isFit_4 8 rfl rfl)
theorem dX1_isFit_144 : decode cX1_isFit 144 = .ok (.goto 4, 3) := dk_167 0 4 (dk_at dksX1_isFit_4 9 rfl rfl)
theorem dX1_isFit_147 : decode cX1_isFit 147 = .ok (.iconst 0, 1) := dk_3 (dk_at dksX1_isFit_4 12 rfl rfl)
theorem dX1_isFit_148 : decode cX1_isFit 148 = .ok (.ireturn, 1) := dk_172 (dk_at dksX1_isFit_4 13 rfl rfl)
theorem dX1_isFit_149 : decode cX1_isFit 149 = .ok (.iload_n 1, 1) := dk_27 (dk_at dksX1_isFit_4 14 rfl rfl)
theorem dX1_isFit_150 : decode cX1_isFit 150 = .ok (.ifCond .lt 12, 3) := dk_155 0 12 (dk_at dksX1_isFit_4 15 rfl rfl)
theorem dX1_isFit_153 : decode cX1_isFit 153 = .ok (.iload_n 1, 1) := dk_27 (dk_at dksX1_isFit_4 18 rfl rfl)
theorem dX1_isFit_154 : decode cX1_isFit 154 = .ok (.iconst 3, 1) := dk_6 (dk_at dksX1_isFit_4 19 rfl rfl)
theorem dX1_isFit_155 : decode cX1_isFit 155 = .ok (.if_icmp .gt 7, 3) := dk_163 0 7 (dk_at dksX1_isFit_4 20 rfl rfl)
theorem dX1_isFit_158 : decode cX1_isFit 158 = .ok (.iconst 1, 1) := dk_4 (dk_at dksX1_isFit_4 23 rfl rfl)
theorem dX1_isFit_159 : decode cX1_isFit 159 = .ok (.goto 4, 3) := dk_167 0 4 (dk_at dksX1_isFit_5 0 rfl rfl)
theorem dX1_isFit_162 : decode cX1_isFit 162 = .ok (.iconst 0, 1) := dk_3 (dk_at dksX1_isFit_5 3 rfl rfl)
theorem dX1_isFit_163 : decode cX1_isFit 163 = .ok (.ireturn, 1) := dk_172 (dk_at dksX1_isFit_5 4 rfl rfl)
theorem dX1_isFit_164 : decode cX1_isFit 164 = .ok (.iload_n 1, 1) := dk_27 (dk_at dksX1_isFit_5 5 rfl rfl)
theorem dX1_isFit_165 : decode cX1_isFit 165 = .ok (.iconst 1, 1) := dk_4 (dk_at dksX1_isFit_5 6 rfl rfl)
theorem dX1_isFit_166 : decode cX1_isFit 166 = .ok (.if_icmp .lt 23, 3) := dk_161 0 23 (dk_at dksX1_isFit_5 7 rfl rfl)
theorem dX1_isFit_169 : decode cX1_isFit 169 = .ok (.iload_n 1, 1) := dk_27 (dk_at dksX1_isFit_5 10 rfl rfl)
theorem dX1_isFit_170 : decode cX1_isFit 170 = .ok (.sipush 1000, 3) := dk_17 3 232 (dk_at dksX1_isFit_5 11 rfl rfl)
theorem dX1_isFit_173 : decode cX1_isFit 173 = .ok (.if_icmp .gt 16, 3) := dk_163 0 16 (dk_at dksX1_isFit_5 14 rfl rfl)
theorem dX1_isFit_176 : decode cX1_isFit 176 = .ok (.iload_n 2, 1) := dk_28 (dk_at dksX1_isFit_5 17 rfl rfl)
theorem dX1_isFit_177 : decode cX1_isFit 177 = .ok (.ifCond .lt 12, 3) := dk_155 0 12 (dk_at dksX1_isFit_5 18 rfl rfl)
theorem dX1_isFit_180 : decode cX1_isFit 180 = .ok (.iload_n 2, 1) := dk_28 (dk_at dksX1_isFit_5 21 rfl rfl)
theorem dX1_isFit_181 : decode cX1_isFit 181 = .ok (.iconst 3, 1) := dk_6 (dk_at dksX1_isFit_5 22 rfl rfl)
theorem dX1_isFit_182 : decode cX1_isFit 182 = .ok (.if_icmp .gt 7, 3) := dk_163 0 7 (dk_at dksX1_isFit_6 0 rfl rfl)
theorem dX1_isFit_185 : decode cX1_isFit 185 = .ok (.iconst 1, 1) := dk_4 (dk_at dksX1_isFit_6 3 rfl rfl)
theorem dX1_isFit_186 : decode cX1_isFit 186 = .ok (.goto 4, 3) := dk_167 0 4 (dk_at dksX1_isFit_6 4 rfl rfl)
theorem dX1_isFit_189 : decode cX1_isFit 189 = .ok (.iconst 0, 1) := dk_3 (dk_at dksX1_isFit_6 7 rfl rfl)
theorem dX1_isFit_190 : decode cX1_isFit 190 = .ok (.ireturn, 1) := dk_172 (dk_at dksX1_isFit_6 8 rfl rfl)
theorem dX1_isFit_191 : decode cX1_isFit 191 = .ok (.iload_n 2, 1) := dk_28 (dk_at dksX1_isFit_6 9 rfl rfl)
theorem dX1_isFit_192 : decode cX1_isFit 192 = .ok (.ifCond .eq 8, 3) := dk_153 0 8 (dk_at dksX1_isFit_6 10 rfl rfl)
theorem dX1_isFit_195 : decode cX1_isFit 195 = .ok (.iload_n 2, 1) := dk_28 (dk_at dksX1_isFit_6 13 rfl rfl)
theorem dX1_isFit_196 : decode cX1_isFit 196 = .ok (.iconst 1, 1) := dk_4 (dk_at dksX1_isFit_6 14 rfl rfl)
theorem dX1_isFit_197 : decode cX1_isFit 197 = .ok (.if_icmp .ne 7, 3) := dk_160 0 7 (dk_at dksX1_isFit_6 15 rfl rfl)
theorem dX1_isFit_200 : decode cX1_isFit 200 = .ok (.iconst 1, 1) := dk_4 (dk_at dksX1_isFit_6 18 rfl rfl)
theorem dX1_isFit_201 : decode cX1_isFit 201 = .ok (.goto 4, 3) := dk_167 0 4 (dk_at dksX1_isFit_6 19 rfl rfl)
theorem dX1_isFit_204 : decode cX1_isFit 204 = .ok (.iconst 0, 1) := dk_3 (dk_at dksX1_isFit_6 22 rfl rfl)
theorem dX1_isFit_205 : decode cX1_isFit 205 = .ok (.ireturn, 1) := dk_172 (dk_at dksX1_isFit_6 23 rfl rfl)
theorem dX1_isFit_206 : decode cX1_isFit 206 = .ok (.iload_n 1, 1) := dk_27 (dk_at dksX1_isFit_7 0 rfl rfl)
theorem dX1_isFit_207 : decode cX1_isFit 207 = .ok (.ifCond .lt 7, 3) := dk_155 0 7 (dk_at dksX1_isFit_7 1 rfl rfl)
theorem dX1_isFit_210 : decode cX1_isFit 210 = .ok (.iconst 1, 1) := dk_4 (dk_at dksX1_isFit_7 4 rfl rfl)
theorem dX1_isFit_211 : decode cX1_isFit 211 = .ok (.goto 4, 3) := dk_167 0 4 (dk_at dksX1_isFit_7 5 rfl rfl)
theorem dX1_isFit_214 : decode cX1_isFit 214 = .ok (.iconst 0, 1) := dk_3 (dk_at dksX1_isFit_7 8 rfl rfl)
theorem dX1_isFit_215 : decode cX1_isFit 215 = .ok (.ireturn, 1) := dk_172 (dk_at dksX1_isFit_7 9 rfl rfl)
theorem dX1_isFit_216 : decode cX1_isFit 216 = .ok (.iload_n 1, 1) := dk_27 (dk_at dksX1_isFit_7 10 rfl rfl)
theorem dX1_isFit_217 : decode cX1_isFit 217 = .ok (.iconst 1, 1) := dk_4 (dk_at dksX1_isFit_7 11 rfl rfl)
theorem dX1_isFit_218 : decode cX1_isFit 218 = .ok (.if_icmp .lt 13, 3) := dk_161 0 13 (dk_at dksX1_isFit_7 12 rfl rfl)
theorem dX1_isFit_221 : decode cX1_isFit 221 = .ok (.iload_n 1, 1) := dk_27 (dk_at dksX1_isFit_7 15 rfl rfl)
theorem dX1_isFit_222 : decode cX1_isFit 222 = .ok (.bipush 8, 2) := dk_16 8 (dk_at dksX1_isFit_7 16 rfl rfl)
theorem dX1_isFit_224 : decode cX1_isFit 224 = .ok (.if_icmp .gt 7, 3) := dk_163 0 7 (dk_at dksX1_isFit_7 18 rfl rfl)
theorem dX1_isFit_227 : decode cX1_isFit 227 = .ok (.iconst 1, 1) := dk_4 (dk_at dksX1_isFit_7 21 rfl rfl)
theorem dX1_isFit_228 : decode cX1_isFit 228 = .ok (.goto 4, 3) := dk_167 0 4 (dk_at dksX1_isFit_8 0 rfl rfl)
theorem dX1_isFit_231 : decode cX1_isFit 231 = .ok (.iconst 0, 1) := dk_3 (dk_at dksX1_isFit_8 3 rfl rfl)
theorem dX1_isFit_232 : decode cX1_isFit 232 = .ok (.ireturn, 1) := dk_172 (dk_at dksX1_isFit_8 4 rfl rfl)
theorem dX1_isFit_233 : decode cX1_isFit 233 = .ok (.iload_n 1, 1) := dk_27 (dk_at dksX1_isFit_8 5 rfl rfl)
theorem dX1_isFit_234 : decode cX1_isFit 234 = .ok (.iconst 1, 1) := dk_4 (dk_at dksX1_isFit_8 6 rfl rfl)
theorem dX1_isFit_235 : decode cX1_isFit 235 = .ok (.if_icmp .lt 13, 3) := dk_161 0 13 (dk_at dksX1_isFit_8 7 rfl rfl)
theorem dX1_isFit_238 : decode cX1_isFit 238 = .ok (.iload_n 1, 1) := dk_27 (dk_at dksX1_isFit_8 10 rfl rfl)
theorem dX1_isFit_239 : decode cX1_isFit 239 = .ok (.bipush 100, 2) := dk_16 100 (dk_at dksX1_isFit_8 11 rfl rfl)
theorem dX1_isFit_241 : decode cX1_isFit 241 = .ok (.if_icmp .gt 7, 3) := dk_163 0 7 (dk_at dksX1_isFit_8 13 rfl rfl)
theorem dX1_isFit_244 : decode cX1_isFit 244 = .ok (.iconst 1, 1) := dk_4 (dk_at dksX1_isFit_8 16 rfl rfl)
theorem dX1_isFit_245 : decode cX1_isFit 245 = .ok (.goto 4, 3) := dk_167 0 4 (dk_at dksX1_isFit_8 17 rfl rfl)
theorem dX1_isFit_248 : decode cX1_isFit 248 = .ok (.iconst 0, 1) := dk_3 (dk_at dksX1_isFit_8 20 rfl rfl)
theorem dX1_isFit_249 : decode cX1_isFit 249 = .ok (.ireturn, 1) := dk_172 (dk_at dksX1_isFit_8 21 rfl rfl)
theorem dX1_isFit_250 : decode cX1_isFit 250 = .ok (.iconst 1, 1) := dk_4 (dk_at dksX1_isFit_8 22 rfl rfl)
theorem dX1_isFit_251 : decode cX1_isFit 251 = .ok (.ireturn, 1) := dk_172 (dk_at dksX1_isFit_8 23 rfl rfl)
abbrev cX1_free : ByteArray := prog_1_method_23_code
def yX1_free : MethodName := ⟨RX1, "free", "()I"⟩
def dkwX1_free_1 : List UInt8 := [16, 24, 162, 0, 7, 4, 167, 0, 4, 3, 184, 0, 176, 27, 172]
abbrev dktX1_free_1 : List UInt8 := dkwX1_free_1 ++ []
def dkwX1_free_0 : List UInt8 := [3, 60, 27, 16, 24, 162, 0, 18, 42, 180, 0, 51, 27, 50, 198, 0, 9, 132, 1, 1, 167, 255, 238, 27]
abbrev dktX1_free_0 : List UInt8 := dkwX1_free_0 ++ dktX1_free_1
theorem dksX1_free_0 : cX1_free.data.toList.drop 0 = dktX1_free_0 := by decide +kernel
theorem dksX1_free_1 : cX1_free.data.toList.drop 24 = dktX1_free_1 := dk_seg dksX1_free_0 24 rfl rfl
theorem dX1_free_0 : decode cX1_free 0 = .ok (.iconst 0, 1) := dk_3 (dk_at dksX1_free_0 0 rfl rfl)
theorem dX1_free_1 : decode cX1_free 1 = .ok (.istore_n 1, 1) := dk_60 (dk_at dksX1_free_0 1 rfl rfl)
theorem dX1_free_2 : decode cX1_free 2 = .ok (.iload_n 1, 1) := dk_27 (dk_at dksX1_free_0 2 rfl rfl)
theorem dX1_free_3 : decode cX1_free 3 = .ok (.bipush 24, 2) := dk_16 24 (dk_at dksX1_free_0 3 rfl rfl)
theorem dX1_free_5 : decode cX1_free 5 = .ok (.if_icmp .ge 18, 3) := dk_162 0 18 (dk_at dksX1_free_0 5 rfl rfl)
theorem dX1_free_8 : decode cX1_free 8 = .ok (.aload_n 0, 1) := dk_42 (dk_at dksX1_free_0 8 rfl rfl)
theorem dX1_free_9 : decode cX1_free 9 = .ok (.getfield 51, 3) := dk_180 0 51 (dk_at dksX1_free_0 9 rfl rfl)
theorem dX1_free_12 : decode cX1_free 12 = .ok (.iload_n 1, 1) := dk_27 (dk_at dksX1_free_0 12 rfl rfl)
theorem dX1_free_13 : decode cX1_free 13 = .ok (.aaload, 1) := dk_50 (dk_at dksX1_free_0 13 rfl rfl)
theorem dX1_free_14 : decode cX1_free 14 = .ok (.ifnull 9, 3) := dk_198 0 9 (dk_at dksX1_free_0 14 rfl rfl)
theorem dX1_free_17 : decode cX1_free 17 = .ok (.iinc 1 1, 3) := dk_132 1 1 (dk_at dksX1_free_0 17 rfl rfl)
theorem dX1_free_20 : decode cX1_free 20 = .ok (.goto (-18), 3) := dk_167 255 238 (dk_at dksX1_free_0 20 rfl rfl)
theorem dX1_free_23 : decode cX1_free 23 = .ok (.iload_n 1, 1) := dk_27 (dk_at dksX1_free_0 23 rfl rfl)
theorem dX1_free_24 : decode cX1_free 24 = .ok (.bipush 24, 2) := dk_16 24 (dk_at dksX1_free_1 0 rfl rfl)
theorem dX1_free_26 : decode cX1_free 26 = .ok (.if_icmp .ge 7, 3) := dk_162 0 7 (dk_at dksX1_free_1 2 rfl rfl)
theorem dX1_free_29 : decode cX1_free 29 = .ok (.iconst 1, 1) := dk_4 (dk_at dksX1_free_1 5 rfl rfl)
theorem dX1_free_30 : decode cX1_free 30 = .ok (.goto 4, 3) := dk_167 0 4 (dk_at dksX1_free_1 6 rfl rfl)
theorem dX1_free_33 : decode cX1_free 33 = .ok (.iconst 0, 1) := dk_3 (dk_at dksX1_free_1 9 rfl rfl)
theorem dX1_free_34 : decode cX1_free 34 = .ok (.invokestatic 176, 3) := dk_184 0 176 (dk_at dksX1_free_1 10 rfl rfl)
theorem dX1_free_37 : decode cX1_free 37 = .ok (.iload_n 1, 1) := dk_27 (dk_at dksX1_free_1 13 rfl rfl)
theorem dX1_free_38 : decode cX1_free 38 = .ok (.ireturn, 1) := dk_172 (dk_at dksX1_free_1 14 rfl rfl)
abbrev cX1_state : ByteArray := prog_1_method_4_code
def yX1_state : MethodName := ⟨RX1, "state", "(Z)V"⟩
def dkwX1_state_0 : List UInt8 := [26, 154, 0, 11, 187, 0, 13, 89, 183, 0, 15, 191, 177]
abbrev dktX1_state_0 : List UInt8 := dkwX1_state_0 ++ []
theorem dksX1_state_0 : cX1_state.data.toList.drop 0 = dktX1_state_0 := by decide +kernel
theorem dX1_state_0 : decode cX1_state 0 = .ok (.iload_n 0, 1) := dk_26 (dk_at dksX1_state_0 0 rfl rfl)
theorem dX1_state_1 : decode cX1_state 1 = .ok (.ifCond .ne 11, 3) := dk_154 0 11 (dk_at dksX1_state_0 1 rfl rfl)
theorem dX1_state_4 : decode cX1_state 4 = .ok (.new 13, 3) := dk_187 0 13 (dk_at dksX1_state_0 4 rfl rfl)
theorem dX1_state_7 : decode cX1_state 7 = .ok (.dup, 1) := dk_89 (dk_at dksX1_state_0 7 rfl rfl)
theorem dX1_state_8 : decode cX1_state 8 = .ok (.invokespecial 15, 3) := dk_183 0 15 (dk_at dksX1_state_0 8 rfl rfl)
theorem dX1_state_11 : decode cX1_state 11 = .ok (.athrow, 1) := dk_191 (dk_at dksX1_state_0 11 rfl rfl)
theorem dX1_state_12 : decode cX1_state 12 = .ok (.return_, 1) := dk_177 (dk_at dksX1_state_0 12 rfl rfl)
abbrev cX1_fresh : ByteArray := prog_1_method_25_code
def yX1_fresh : MethodName := ⟨RX1, "fresh", "(I)LLibraryDesk$Thing;"⟩
def dkwX1_fresh_3 : List UInt8 := [4, 96, 181, 0, 223, 44, 176]
abbrev dktX1_fresh_3 : List UInt8 := dkwX1_fresh_3 ++ []
def dkwX1_fresh_2 : List UInt8 := [167, 255, 213, 42, 27, 182, 0, 230, 77, 42, 180, 0, 59, 42, 180, 0, 223, 44, 83, 42, 89, 180, 0, 223]
abbrev dktX1_fresh_2 : List UInt8 := dkwX1_fresh_2 ++ dktX1_fresh_3
def dkwX1_fresh_1 : List UInt8 := [180, 0, 59, 28, 50, 182, 0, 166, 27, 160, 0, 10, 42, 180, 0, 59, 28, 50, 176, 132, 2, 1]
abbrev dktX1_fresh_1 : List UInt8 := dkwX1_fresh_1 ++ dktX1_fresh_2
def dkwX1_fresh_0 : List UInt8 := [3, 61, 28, 42, 180, 0, 223, 162, 0, 41, 42, 180, 0, 59, 28, 50, 180, 0, 226, 154, 0, 23, 42]
abbrev dktX1_fresh_0 : List UInt8 := dkwX1_fresh_0 ++ dktX1_fresh_1
theorem dksX1_fresh_0 : cX1_fresh.data.toList.drop 0 = dktX1_fresh_0 := by decide +kernel
theorem dksX1_fresh_1 : cX1_fresh.data.toList.drop 23 = dktX1_fresh_1 := dk_seg dksX1_fresh_0 23 rfl rfl
theorem dksX1_fresh_2 : cX1_fresh.data.toList.drop 45 = dktX1_fresh_2 := dk_seg dksX1_fresh_1 22 rfl rfl
theorem dksX1_fresh_3 : cX1_fresh.data.toList.drop 69 = dktX1_fresh_3 := dk_seg dksX1_fresh_2 24 rfl rfl
theorem dX1_fresh_0 : decode cX1_fresh 0 = .ok (.iconst 0, 1) := dk_3 (dk_at dksX1_fresh_0 0 rfl rfl)
theorem dX1_fresh_1 : decode cX1_fresh 1 = .ok (.istore_n 2, 1) := dk_61 (dk_at dksX1_fresh_0 1 rfl rfl)
theorem dX1_fresh_2 : decode cX1_fresh 2 = .ok (.iload_n 2, 1) := dk_28 (dk_at dksX1_fresh_0 2 rfl rfl)
theorem dX1_fresh_3 : decode cX1_fresh 3 = .ok (.aload_n 0, 1) := dk_42 (dk_at dksX1_fresh_0 3 rfl rfl)
theorem dX1_fresh_4 : decode cX1_fresh 4 = .ok (.getfield 223, 3) := dk_180 0 223 (dk_at dksX1_fresh_0 4 rfl rfl)
theorem dX1_fresh_7 : decode cX1_fresh 7 = .ok (.if_icmp .ge 41, 3) := dk_162 0 41 (dk_at dksX1_fresh_0 7 rfl rfl)
theorem dX1_fresh_10 : decode cX1_fresh 10 = .ok (.aload_n 0, 1) := dk_42 (dk_at dksX1_fresh_0 10 rfl rfl)
theorem dX1_fresh_11 : decode cX1_fresh 11 = .ok (.getfield 59, 3) := dk_180 0 59 (dk_at dksX1_fresh_0 11 rfl rfl)
theorem dX1_fresh_14 : decode cX1_fresh 14 = .ok (.iload_n 2, 1) := dk_28 (dk_at dksX1_fresh_0 14 rfl rfl)
theorem dX1_fresh_15 : decode cX1_fresh 15 = .ok (.aaload, 1) := dk_50 (dk_at dksX1_fresh_0 15 rfl rfl)
theorem dX1_fresh_16 : decode cX1_fresh 16 = .ok (.getfield 226, 3) := dk_180 0 226 (dk_at dksX1_fresh_0 16 rfl rfl)
theorem dX1_fresh_19 : decode cX1_fresh 19 = .ok (.ifCond .ne 23, 3) := dk_154 0 23 (dk_at dksX1_fresh_0 19 rfl rfl)
theorem dX1_fresh_22 : decode cX1_fresh 22 = .ok (.aload_n 0, 1) := dk_42 (dk_at dksX1_fresh_0 22 rfl rfl)
theorem dX1_fresh_23 : decode cX1_fresh 23 = .ok (.getfield 59, 3) := dk_180 0 59 (dk_at dksX1_fresh_1 0 rfl rfl)
theorem dX1_fresh_26 : decode cX1_fresh 26 = .ok (.iload_n 2, 1) := dk_28 (dk_at dksX1_fresh_1 3 rfl rfl)
theorem dX1_fresh_27 : decode cX1_fresh 27 = .ok (.aaload, 1) := dk_50 (dk_at dksX1_fresh_1 4 rfl rfl)
theorem dX1_fresh_28 : decode cX1_fresh 28 = .ok (.invokevirtual 166, 3) := dk_182 0 166 (dk_at dksX1_fresh_1 5 rfl rfl)
theorem dX1_fresh_31 : decode cX1_fresh 31 = .ok (.iload_n 1, 1) := dk_27 (dk_at dksX1_fresh_1 8 rfl rfl)
theorem dX1_fresh_32 : decode cX1_fresh 32 = .ok (.if_icmp .ne 10, 3) := dk_160 0 10 (dk_at dksX1_fresh_1 9 rfl rfl)
theorem dX1_fresh_35 : decode cX1_fresh 35 = .ok (.aload_n 0, 1) := dk_42 (dk_at dksX1_fresh_1 12 rfl rfl)
theorem dX1_fresh_36 : decode cX1_fresh 36 = .ok (.getfield 59, 3) := dk_180 0 59 (dk_at dksX1_fresh_1 13 rfl rfl)
theorem dX1_fresh_39 : decode cX1_fresh 39 = .ok (.iload_n 2, 1) := dk_28 (dk_at dksX1_fresh_1 16 rfl rfl)
theorem dX1_fresh_40 : decode cX1_fresh 40 = .ok (.aaload, 1) := dk_50 (dk_at dksX1_fresh_1 17 rfl rfl)
theorem dX1_fresh_41 : decode cX1_fresh 41 = .ok (.areturn, 1) := dk_176 (dk_at dksX1_fresh_1 18 rfl rfl)
theorem dX1_fresh_42 : decode cX1_fresh 42 = .ok (.iinc 2 1, 3) := dk_132 2 1 (dk_at dksX1_fresh_1 19 rfl rfl)
theorem dX1_fresh_45 : decode cX1_fresh 45 = .ok (.goto (-43), 3) := dk_167 255 213 (dk_at dksX1_fresh_2 0 rfl rfl)
theorem dX1_fresh_48 : decode cX1_fresh 48 = .ok (.aload_n 0, 1) := dk_42 (dk_at dksX1_fresh_2 3 rfl rfl)
theorem dX1_fresh_49 : decode cX1_fresh 49 = .ok (.iload_n 1, 1) := dk_27 (dk_at dksX1_fresh_2 4 rfl rfl)
theorem dX1_fresh_50 : decode cX1_fresh 50 = .ok (.invokevirtual 230, 3) := dk_182 0 230 (dk_at dksX1_fresh_2 5 rfl rfl)
theorem dX1_fresh_53 : decode cX1_fresh 53 = .ok (.astore_n 2, 1) := dk_77 (dk_at dksX1_fresh_2 8 rfl rfl)
theorem dX1_fresh_54 : decode cX1_fresh 54 = .ok (.aload_n 0, 1) := dk_42 (dk_at dksX1_fresh_2 9 rfl rfl)
theorem dX1_fresh_55 : decode cX1_fresh 55 = .ok (.getfield 59, 3) := dk_180 0 59 (dk_at dksX1_fresh_2 10 rfl rfl)
theorem dX1_fresh_58 : decode cX1_fresh 58 = .ok (.aload_n 0, 1) := dk_42 (dk_at dksX1_fresh_2 13 rfl rfl)
theorem dX1_fresh_59 : decode cX1_fresh 59 = .ok (.getfield 223, 3) := dk_180 0 223 (dk_at dksX1_fresh_2 14 rfl rfl)
theorem dX1_fresh_62 : decode cX1_fresh 62 = .ok (.aload_n 2, 1) := dk_44 (dk_at dksX1_fresh_2 17 rfl rfl)
theorem dX1_fresh_63 : decode cX1_fresh 63 = .ok (.aastore, 1) := dk_83 (dk_at dksX1_fresh_2 18 rfl rfl)
theorem dX1_fresh_64 : decode cX1_fresh 64 = .ok (.aload_n 0, 1) := dk_42 (dk_at dksX1_fresh_2 19 rfl rfl)
theorem dX1_fresh_65 : decode cX1_fresh 65 = .ok (.dup, 1) := dk_89 (dk_at dksX1_fresh_2 20 rfl rfl)
theorem dX1_fresh_66 : decode cX1_fresh 66 = .ok (.getfield 223, 3) := dk_180 0 223 (dk_at dksX1_fresh_2 21 rfl rfl)
theorem dX1_fresh_69 : decode cX1_fresh 69 = .ok (.iconst 1, 1) := dk_4 (dk_at dksX1_fresh_3 0 rfl rfl)
theorem dX1_fresh_70 : decode cX1_fresh 70 = .ok (.iadd, 1) := dk_96 (dk_at dksX1_fresh_3 1 rfl rfl)
theorem dX1_fresh_71 : decode cX1_fresh 71 = .ok (.putfield 223, 3) := dk_181 0 223 (dk_at dksX1_fresh_3 2 rfl rfl)
theorem dX1_fresh_74 : decode cX1_fresh 74 = .ok (.aload_n 2, 1) := dk_44 (dk_at dksX1_fresh_3 5 rfl rfl)
theorem dX1_fresh_75 : decode cX1_fresh 75 = .ok (.areturn, 1) := dk_176 (dk_at dksX1_fresh_3 6 rfl rfl)
abbrev cX1_create : ByteArray := prog_1_method_24_code
def yX1_create : MethodName := ⟨RX1, "create", "(I)LLibraryDesk$Thing;"⟩
def dkwX1_create_7 : List UInt8 := [176]
abbrev dktX1_create_7 : List UInt8 := dkwX1_create_7 ++ []
def dkwX1_create_6 : List UInt8 := [187, 0, 213, 89, 183, 0, 215, 176, 187, 0, 216, 89, 183, 0, 218, 176, 187, 0, 219, 89, 27, 183, 0, 221]
abbrev dktX1_create_6 : List UInt8 := dkwX1_create_6 ++ dktX1_create_7
def dkwX1_create_5 : List UInt8 := [187, 0, 204, 89, 183, 0, 206, 176, 187, 0, 207, 89, 183, 0, 209, 176, 187, 0, 210, 89, 183, 0, 212, 176]
abbrev dktX1_create_5 : List UInt8 := dkwX1_create_5 ++ dktX1_create_6
def dkwX1_create_4 : List UInt8 := [187, 0, 197, 89, 183, 0, 199, 176, 187, 0, 174, 89, 183, 0, 200, 176, 187, 0, 201, 89, 183, 0, 203, 176]
abbrev dktX1_create_4 : List UInt8 := dkwX1_create_4 ++ dktX1_create_5
def dkwX1_create_3 : List UInt8 := [187, 0, 188, 89, 183, 0, 190, 176, 187, 0, 191, 89, 183, 0, 193, 176, 187, 0, 194, 89, 183, 0, 196, 176]
abbrev dktX1_create_3 : List UInt8 := dkwX1_create_3 ++ dktX1_create_4
def dkwX1_create_2 : List UInt8 := [187, 0, 179, 89, 183, 0, 181, 176, 187, 0, 182, 89, 183, 0, 184, 176, 187, 0, 185, 89, 183, 0, 187, 176]
abbrev dktX1_create_2 : List UInt8 := dkwX1_create_2 ++ dktX1_create_3
def dkwX1_create_1 : List UInt8 := [170, 0, 0, 0, 0, 0, 211, 0, 0, 0, 0, 0, 0, 0, 20, 0, 0, 0, 99, 0, 0, 0, 107, 0, 0, 0, 115, 0, 0, 0, 123, 0, 0, 0, 131, 0, 0, 0, 139, 0, 0, 0, 147, 0, 0, 0, 155, 0, 0, 0, 163, 0, 0, 0, 171, 0, 0, 0, 179, 0, 0, 0, 187, 0, 0, 0, 195, 0, 0, 0, 211, 0, 0, 0, 211, 0, 0, 0, 211, 0, 0, 0, 211, 0, 0, 0, 211, 0, 0, 0, 211, 0, 0, 0, 211, 0, 0, 0, 203]
abbrev dktX1_create_1 : List UInt8 := dkwX1_create_1 ++ dktX1_create_2
def dkwX1_create_0 : List UInt8 := [27]
abbrev dktX1_create_0 : List UInt8 := dkwX1_create_0 ++ dktX1_create_1
theorem dksX1_create_0 : cX1_create.data.toList.drop 0 = dktX1_create_0 := by decide +kernel
theorem dksX1_create_1 : cX1_create.data.toList.drop 1 = dktX1_create_1 := dk_seg dksX1_create_0 1 rfl rfl
theorem dksX1_create_2 : cX1_create.data.toList.drop 100 = dktX1_create_2 := dk_seg dksX1_create_1 99 rfl rfl
theorem dksX1_create_3 : cX1_create.data.toList.drop 124 = dktX1_create_3 := dk_seg dksX1_create_2 24 rfl rfl
theorem dksX1_create_4 : cX1_create.data.toList.drop 148 = dktX1_create_4 := dk_seg dksX1_create_3 24 rfl rfl
theorem dksX1_create_5 : cX1_create.data.toList.drop 172 = dktX1_create_5 := dk_seg dksX1_create_4 24 rfl rfl
theorem dksX1_create_6 : cX1_create.data.toList.drop 196 = dktX1_create_6 := dk_seg dksX1_create_5 24 rfl rfl
theorem dksX1_create_7 : cX1_create.data.toList.drop 220 = dktX1_create_7 := dk_seg dksX1_create_6 24 rfl rfl
theorem dX1_create_0 : decode cX1_create 0 = .ok (.iload_n 1, 1) := dk_27 (dk_at dksX1_create_0 0 rfl rfl)
theorem dX1_create_1 : decode cX1_create 1 = .ok (.tableswitch 211 0 20 #[99, 107, 115, 123, 131, 139, 147, 155, 163, 171, 179, 187, 195, 211, 211, 211, 211, 211, 211, 211, 203], 99) := by decide +kernel
theorem dX1_create_100 : decode cX1_create 100 = .ok (.new 179, 3) := dk_187 0 179 (dk_at dksX1_create_2 0 rfl rfl)
theorem dX1_create_103 : decode cX1_create 103 = .ok (.dup, 1) := dk_89 (dk_at dksX1_create_2 3 rfl rfl)
theorem dX1_create_104 : decode cX1_create 104 = .ok (.invokespecial 181, 3) := dk_183 0 181 (dk_at dksX1_create_2 4 rfl rfl)
theorem dX1_create_107 : decode cX1_create 107 = .ok (.areturn, 1) := dk_176 (dk_at dksX1_create_2 7 rfl rfl)
theorem dX1_create_108 : decode cX1_create 108 = .ok (.new 182, 3) := dk_187 0 182 (dk_at dksX1_create_2 8 rfl rfl)
theorem dX1_create_111 : decode cX1_create 111 = .ok (.dup, 1) := dk_89 (dk_at dksX1_create_2 11 rfl rfl)
theorem dX1_create_112 : decode cX1_create 112 = .ok (.invokespecial 184, 3) := dk_183 0 184 (dk_at dksX1_create_2 12 rfl rfl)
theorem dX1_create_115 : decode cX1_create 115 = .ok (.areturn, 1) := dk_176 (dk_at dksX1_create_2 15 rfl rfl)
theorem dX1_create_116 : decode cX1_create 116 = .ok (.new 185, 3) := dk_187 0 185 (dk_at dksX1_create_2 16 rfl rfl)
theorem dX1_create_119 : decode cX1_create 119 = .ok (.dup, 1) := dk_89 (dk_at dksX1_create_2 19 rfl rfl)
theorem dX1_create_120 : decode cX1_create 120 = .ok (.invokespecial 187, 3) := dk_183 0 187 (dk_at dksX1_create_2 20 rfl rfl)
theorem dX1_create_123 : decode cX1_create 123 = .ok (.areturn, 1) := dk_176 (dk_at dksX1_create_2 23 rfl rfl)
theorem dX1_create_124 : decode cX1_create 124 = .ok (.new 188, 3) := dk_187 0 188 (dk_at dksX1_create_3 0 rfl rfl)
theorem dX1_create_127 : decode cX1_create 127 = .ok (.dup, 1) := dk_89 (dk_at dksX1_create_3 3 rfl rfl)
theorem dX1_create_128 : decode cX1_create 128 = .ok (.invokespecial 190, 3) := dk_183 0 190 (dk_at dksX1_create_3 4 rfl rfl)
theorem dX1_create_131 : decode cX1_create 131 = .ok (.areturn, 1) := dk_176 (dk_at dksX1_create_3 7 rfl rfl)
theorem dX1_create_132 : decode cX1_create 132 = .ok (.new 191, 3) := dk_187 0 191 (dk_at dksX1_create_3 8 rfl rfl)
theorem dX1_create_135 : decode cX1_create 135 = .ok (.dup, 1) := dk_89 (dk_at dksX1_create_3 11 rfl rfl)
theorem dX1_create_136 : decode cX1_create 136 = .ok (.invokespecial 193, 3) := dk_183 0 193 (dk_at dksX1_create_3 12 rfl rfl)
theorem dX1_create_139 : decode cX1_create 139 = .ok (.areturn, 1) := dk_176 (dk_at dksX1_create_3 15 rfl rfl)
theorem dX1_create_140 : decode cX1_create 140 = .ok (.new 194, 3) := dk_187 0 194 (dk_at dksX1_create_3 16 rfl rfl)
theorem dX1_create_143 : decode cX1_create 143 = .ok (.dup, 1) := dk_89 (dk_at dksX1_create_3 19 rfl rfl)
theorem dX1_create_144 : decode cX1_create 144 = .ok (.invokespecial 196, 3) := dk_183 0 196 (dk_at dksX1_create_3 20 rfl rfl)
theorem dX1_create_147 : decode cX1_create 147 = .ok (.areturn, 1) := dk_176 (dk_at dksX1_create_3 23 rfl rfl)
theorem dX1_create_148 : decode cX1_create 148 = .ok (.new 197, 3) := dk_187 0 197 (dk_at dksX1_create_4 0 rfl rfl)
theorem dX1_create_151 : decode cX1_create 151 = .ok (.dup, 1) := dk_89 (dk_at dksX1_create_4 3 rfl rfl)
theorem dX1_create_152 : decode cX1_create 152 = .ok (.invokespecial 199, 3) := dk_183 0 199 (dk_at dksX1_create_4 4 rfl rfl)
theorem dX1_create_155 : decode cX1_create 155 = .ok (.areturn, 1) := dk_176 (dk_at dksX1_create_4 7 rfl rfl)
theorem dX1_create_156 : decode cX1_create 156 = .ok (.new 174, 3) := dk_187 0 174 (dk_at dksX1_create_4 8 rfl rfl)
theorem dX1_create_159 : decode cX1_create 159 = .ok (.dup, 1) := dk_89 (dk_at dksX1_create_4 11 rfl rfl)
theorem dX1_create_160 : decode cX1_create 160 = .ok (.invokespecial 200, 3) := dk_183 0 200 (dk_at dksX1_create_4 12 rfl rfl)
theorem dX1_create_163 : decode cX1_create 163 = .ok (.areturn, 1) := dk_176 (dk_at dksX1_create_4 15 rfl rfl)
theorem dX1_create_164 : decode cX1_create 164 = .ok (.new 201, 3) := dk_187 0 201 (dk_at dksX1_create_4 16 rfl rfl)
theorem dX1_create_167 : decode cX1_create 167 = .ok (.dup, 1) := dk_89 (dk_at dksX1_create_4 19 rfl rfl)
theorem dX1_create_168 : decode cX1_create 168 = .ok (.invokespecial 203, 3) := dk_183 0 203 (dk_at dksX1_create_4 20 rfl rfl)
theorem dX1_create_171 : decode cX1_create 171 = .ok (.areturn, 1) := dk_176 (dk_at dksX1_create_4 23 rfl rfl)
theorem dX1_create_172 : decode cX1_create 172 = .ok (.new 204, 3) := dk_187 0 204 (dk_at dksX1_create_5 0 rfl rfl)
theorem dX1_create_175 : decode cX1_create 175 = .ok (.dup, 1) := dk_89 (dk_at dksX1_create_5 3 rfl rfl)
theorem dX1_create_176 : decode cX1_create 176 = .ok (.invokespecial 206, 3) := dk_183 0 206 (dk_at dksX1_create_5 4 rfl rfl)
theorem dX1_create_179 : decode cX1_create 179 = .ok (.areturn, 1) := dk_176 (dk_at dksX1_create_5 7 rfl rfl)
theorem dX1_create_180 : decode cX1_create 180 = .ok (.new 207, 3) := dk_187 0 207 (dk_at dksX1_create_5 8 rfl rfl)
theorem dX1_create_183 : decode cX1_create 183 = .ok (.dup, 1) := dk_89 (dk_at dksX1_create_5 11 rfl rfl)
theorem dX1_create_184 : decode cX1_create 184 = .ok (.invokespecial 209, 3) := dk_183 0 209 (dk_at dksX1_create_5 12 rfl rfl)
theorem dX1_create_187 : decode cX1_create 187 = .ok (.areturn, 1) := dk_176 (dk_at dksX1_create_5 15 rfl rfl)
theorem dX1_create_188 : decode cX1_create 188 = .ok (.new 210, 3) := dk_187 0 210 (dk_at dksX1_create_5 16 rfl rfl)
theorem dX1_create_191 : decode cX1_create 191 = .ok (.dup, 1) := dk_89 (dk_at dksX1_create_5 19 rfl rfl)
theorem dX1_create_192 : decode cX1_create 192 = .ok (.invokespecial 212, 3) := dk_183 0 212 (dk_at dksX1_create_5 20 rfl rfl)
theorem dX1_create_195 : decode cX1_create 195 = .ok (.areturn, 1) := dk_176 (dk_at dksX1_create_5 23 rfl rfl)
theorem dX1_create_196 : decode cX1_create 196 = .ok (.new 213, 3) := dk_187 0 213 (dk_at dksX1_create_6 0 rfl rfl)
theorem dX1_create_199 : decode cX1_create 199 = .ok (.dup, 1) := dk_89 (dk_at dksX1_create_6 3 rfl rfl)
theorem dX1_create_200 : decode cX1_create 200 = .ok (.invokespecial 215, 3) := dk_183 0 215 (dk_at dksX1_create_6 4 rfl rfl)
theorem dX1_create_203 : decode cX1_create 203 = .ok (.areturn, 1) := dk_176 (dk_at dksX1_create_6 7 rfl rfl)
theorem dX1_create_204 : decode cX1_create 204 = .ok (.new 216, 3) := dk_187 0 216 (dk_at dksX1_create_6 8 rfl rfl)
theorem dX1_create_207 : decode cX1_create 207 = .ok (.dup, 1) := dk_89 (dk_at dksX1_create_6 11 rfl rfl)
theorem dX1_create_208 : decode cX1_create 208 = .ok (.invokespecial 218, 3) := dk_183 0 218 (dk_at dksX1_create_6 12 rfl rfl)
theorem dX1_create_211 : decode cX1_create 211 = .ok (.areturn, 1) := dk_176 (dk_at dksX1_create_6 15 rfl rfl)
theorem dX1_create_212 : decode cX1_create 212 = .ok (.new 219, 3) := dk_187 0 219 (dk_at dksX1_create_6 16 rfl rfl)
theorem dX1_create_215 : decode cX1_create 215 = .ok (.dup, 1) := dk_89 (dk_at dksX1_create_6 19 rfl rfl)
theorem dX1_create_216 : decode cX1_create 216 = .ok (.iload_n 1, 1) := dk_27 (dk_at dksX1_create_6 20 rfl rfl)
theorem dX1_create_217 : decode cX1_create 217 = .ok (.invokespecial 221, 3) := dk_183 0 221 (dk_at dksX1_create_6 21 rfl rfl)
theorem dX1_create_220 : decode cX1_create 220 = .ok (.areturn, 1) := dk_176 (dk_at dksX1_create_7 0 rfl rfl)
abbrev cX1_begin : ByteArray := prog_1_method_29_code
def yX1_begin : MethodName := ⟨RX1, "begin", "(LLibraryDesk$Thing;II)V"⟩
def dkwX1_begin_8 : List UInt8 := [42, 192, 0, 219, 27, 28, 182, 1, 14, 177]
abbrev dktX1_begin_8 : List UInt8 := dkwX1_begin_8 ++ []
def dkwX1_begin_7 : List UInt8 := [167, 0, 33, 42, 192, 0, 213, 180, 1, 10, 182, 1, 5, 42, 192, 0, 213, 3, 181, 1, 11, 167, 0, 12]
abbrev dktX1_begin_7 : List UInt8 := dkwX1_begin_7 ++ dktX1_begin_8
def dkwX1_begin_6 : List UInt8 := [167, 0, 56, 42, 192, 0, 174, 182, 1, 0, 167, 0, 46, 42, 192, 0, 210, 180, 1, 1, 182, 1, 5]
abbrev dktX1_begin_6 : List UInt8 := dkwX1_begin_6 ++ dktX1_begin_7
def dkwX1_begin_5 : List UInt8 := [167, 0, 78, 42, 192, 0, 194, 27, 28, 182, 0, 253, 167, 0, 66, 42, 192, 0, 197, 182, 0, 254]
abbrev dktX1_begin_5 : List UInt8 := dkwX1_begin_5 ++ dktX1_begin_6
def dkwX1_begin_4 : List UInt8 := [160, 0, 7, 4, 167, 0, 4, 3, 182, 0, 249, 167, 0, 89, 42, 192, 0, 191, 27, 182, 0, 252]
abbrev dktX1_begin_4 : List UInt8 := dkwX1_begin_4 ++ dktX1_begin_5
def dkwX1_begin_3 : List UInt8 := [167, 0, 122, 42, 192, 0, 185, 27, 28, 182, 0, 246, 167, 0, 110, 42, 192, 0, 188, 27, 28, 4]
abbrev dktX1_begin_3 : List UInt8 := dkwX1_begin_3 ++ dktX1_begin_4
def dkwX1_begin_2 : List UInt8 := [42, 192, 0, 179, 180, 0, 236, 27, 182, 0, 240, 167, 0, 133, 42, 192, 0, 182, 27, 182, 0, 245]
abbrev dktX1_begin_2 : List UInt8 := dkwX1_begin_2 ++ dktX1_begin_3
def dkwX1_begin_1 : List UInt8 := [170, 0, 0, 0, 0, 0, 0, 203, 0, 0, 0, 0, 0, 0, 0, 12, 0, 0, 0, 68, 0, 0, 0, 82, 0, 0, 0, 93, 0, 0, 0, 105, 0, 0, 0, 126, 0, 0, 0, 137, 0, 0, 0, 149, 0, 0, 0, 159, 0, 0, 0, 203, 0, 0, 0, 203, 0, 0, 0, 203, 0, 0, 0, 169, 0, 0, 0, 182]
abbrev dktX1_begin_1 : List UInt8 := dkwX1_begin_1 ++ dktX1_begin_2
def dkwX1_begin_0 : List UInt8 := [42, 182, 0, 166]
abbrev dktX1_begin_0 : List UInt8 := dkwX1_begin_0 ++ dktX1_begin_1
theorem dksX1_begin_0 : cX1_begin.data.toList.drop 0 = dktX1_begin_0 := by decide +kernel
theorem dksX1_begin_1 : cX1_begin.data.toList.drop 4 = dktX1_begin_1 := dk_seg dksX1_begin_0 4 rfl rfl
theorem dksX1_begin_2 : cX1_begin.data.toList.drop 72 = dktX1_begin_2 := dk_seg dksX1_begin_1 68 rfl rfl
theorem dksX1_begin_3 : cX1_begin.data.toList.drop 94 = dktX1_begin_3 := dk_seg dksX1_begin_2 22 rfl rfl
theorem dksX1_begin_4 : cX1_begin.data.toList.drop 116 = dktX1_begin_4 := dk_seg dksX1_begin_3 22 rfl rfl
theorem dksX1_begin_5 : cX1_begin.data.toList.drop 138 = dktX1_begin_5 := dk_seg dksX1_begin_4 22 rfl rfl
theorem dksX1_begin_6 : cX1_begin.data.toList.drop 160 = dktX1_begin_6 := dk_seg dksX1_begin_5 22 rfl rfl
theorem dksX1_begin_7 : cX1_begin.data.toList.drop 183 = dktX1_begin_7 := dk_seg dksX1_begin_6 23 rfl rfl
theorem dksX1_begin_8 : cX1_begin.data.toList.drop 207 = dktX1_begin_8 := dk_seg dksX1_begin_7 24 rfl rfl
theorem dX1_begin_0 : decode cX1_begin 0 = .ok (.aload_n 0, 1) := dk_42 (dk_at dksX1_begin_0 0 rfl rfl)
theorem dX1_begin_1 : decode cX1_begin 1 = .ok (.invokevirtual 166, 3) := dk_182 0 166 (dk_at dksX1_begin_0 1 rfl rfl)
theorem dX1_begin_4 : decode cX1_begin 4 = .ok (.tableswitch 203 0 12 #[68, 82, 93, 105, 126, 137, 149, 159, 203, 203, 203, 169, 182], 68) := by decide +kernel
theorem dX1_begin_72 : decode cX1_begin 72 = .ok (.aload_n 0, 1) := dk_42 (dk_at dksX1_begin_2 0 rfl rfl)
theorem dX1_begin_73 : decode cX1_begin 73 = .ok (.checkcast 179, 3) := dk_192 0 179 (dk_at dksX1_begin_2 1 rfl rfl)
theorem dX1_begin_76 : decode cX1_begin 76 = .ok (.getfield 236, 3) := dk_180 0 236 (dk_at dksX1_begin_2 4 rfl rfl)
theorem dX1_begin_79 : decode cX1_begin 79 = .ok (.iload_n 1, 1) := dk_27 (dk_at dksX1_begin_2 7 rfl rfl)
theorem dX1_begin_80 : decode cX1_begin 80 = .ok (.invokevirtual 240, 3) := dk_182 0 240 (dk_at dksX1_begin_2 8 rfl rfl)
theorem dX1_begin_83 : decode cX1_begin 83 = .ok (.goto 133, 3) := dk_167 0 133 (dk_at dksX1_begin_2 11 rfl rfl)
theorem dX1_begin_86 : decode cX1_begin 86 = .ok (.aload_n 0, 1) := dk_42 (dk_at dksX1_begin_2 14 rfl rfl)
theorem dX1_begin_87 : decode cX1_begin 87 = .ok (.checkcast 182, 3) := dk_192 0 182 (dk_at dksX1_begin_2 15 rfl rfl)
theorem dX1_begin_90 : decode cX1_begin 90 = .ok (.iload_n 1, 1) := dk_27 (dk_at dksX1_begin_2 18 rfl rfl)
theorem dX1_begin_91 : decode cX1_begin 91 = .ok (.invokevirtual 245, 3) := dk_182 0 245 (dk_at dksX1_begin_2 19 rfl rfl)
theorem dX1_begin_94 : decode cX1_begin 94 = .ok (.goto 122, 3) := dk_167 0 122 (dk_at dksX1_begin_3 0 rfl rfl)
theorem dX1_begin_97 : decode cX1_begin 97 = .ok (.aload_n 0, 1) := dk_42 (dk_at dksX1_begin_3 3 rfl rfl)
theorem dX1_begin_98 : decode cX1_begin 98 = .ok (.checkcast 185, 3) := dk_192 0 185 (dk_at dksX1_begin_3 4 rfl rfl)
theorem dX1_begin_101 : decode cX1_begin 101 = .ok (.iload_n 1, 1) := dk_27 (dk_at dksX1_begin_3 7 rfl rfl)
theorem dX1_begin_102 : decode cX1_begin 102 = .ok (.iload_n 2, 1) := dk_28 (dk_at dksX1_begin_3 8 rfl rfl)
theorem dX1_begin_103 : decode cX1_begin 103 = .ok (.invokevirtual 246, 3) := dk_182 0 246 (dk_at dksX1_begin_3 9 rfl rfl)
theorem dX1_begin_106 : decode cX1_begin 106 = .ok (.goto 110, 3) := dk_167 0 110 (dk_at dksX1_begin_3 12 rfl rfl)
theorem dX1_begin_109 : decode cX1_begin 109 = .ok (.aload_n 0, 1) := dk_42 (dk_at dksX1_begin_3 15 rfl rfl)
theorem dX1_begin_110 : decode cX1_begin 110 = .ok (.checkcast 188, 3) := dk_192 0 188 (dk_at dksX1_begin_3 16 rfl rfl)
theorem dX1_begin_113 : decode cX1_begin 113 = .ok (.iload_n 1, 1) := dk_27 (dk_at dksX1_begin_3 19 rfl rfl)
theorem dX1_begin_114 : decode cX1_begin 114 = .ok (.iload_n 2, 1) := dk_28 (dk_at dksX1_begin_3 20 rfl rfl)
theorem dX1_begin_115 : decode cX1_begin 115 = .ok (.iconst 1, 1) := dk_4 (dk_at dksX1_begin_3 21 rfl rfl)
theorem dX1_begin_116 : decode cX1_begin 116 = .ok (.if_icmp .ne 7, 3) := dk_160 0 7 (dk_at dksX1_begin_4 0 rfl rfl)
theorem dX1_begin_119 : decode cX1_begin 119 = .ok (.iconst 1, 1) := dk_4 (dk_at dksX1_begin_4 3 rfl rfl)
theorem dX1_begin_120 : decode cX1_begin 120 = .ok (.goto 4, 3) := dk_167 0 4 (dk_at dksX1_begin_4 4 rfl rfl)
theorem dX1_begin_123 : decode cX1_begin 123 = .ok (.iconst 0, 1) := dk_3 (dk_at dksX1_begin_4 7 rfl rfl)
theorem dX1_begin_124 : decode cX1_begin 124 = .ok (.invokevirtual 249, 3) := dk_182 0 249 (dk_at dksX1_begin_4 8 rfl rfl)
theorem dX1_begin_127 : decode cX1_begin 127 = .ok (.goto 89, 3) := dk_167 0 89 (dk_at dksX1_begin_4 11 rfl rfl)
theorem dX1_begin_130 : decode cX1_begin 130 = .ok (.aload_n 0, 1) := dk_42 (dk_at dksX1_begin_4 14 rfl rfl)
theorem dX1_begin_131 : decode cX1_begin 131 = .ok (.checkcast 191, 3) := dk_192 0 191 (dk_at dksX1_begin_4 15 rfl rfl)
theorem dX1_begin_134 : decode cX1_begin 134 = .ok (.iload_n 1, 1) := dk_27 (dk_at dksX1_begin_4 18 rfl rfl)
theorem dX1_begin_135 : decode cX1_begin 135 = .ok (.invokevirtual 252, 3) := dk_182 0 252 (dk_at dksX1_begin_4 19 rfl rfl)
theorem dX1_begin_138 : decode cX1_begin 138 = .ok (.goto 78, 3) := dk_167 0 78 (dk_at dksX1_begin_5 0 rfl rfl)
theorem dX1_begin_141 : decode cX1_begin 141 = .ok (.aload_n 0, 1) := dk_42 (dk_at dksX1_begin_5 3 rfl rfl)
theorem dX1_begin_142 : decode cX1_begin 142 = .ok (.checkcast 194, 3) := dk_192 0 194 (dk_at dksX1_begin_5 4 rfl rfl)
theorem dX1_begin_145 : decode cX1_begin 145 = .ok (.iload_n 1, 1) := dk_27 (dk_at dksX1_begin_5 7 rfl rfl)
theorem dX1_begin_146 : decode cX1_begin 146 = .ok (.iload_n 2, 1) := dk_28 (dk_at dksX1_begin_5 8 rfl rfl)
theorem dX1_begin_147 : decode cX1_begin 147 = .ok (.invokevirtual 253, 3) := dk_182 0 253 (dk_at dksX1_begin_5 9 rfl rfl)
theorem dX1_begin_150 : decode cX1_begin 150 = .ok (.goto 66, 3) := dk_167 0 66 (dk_at dksX1_begin_5 12 rfl rfl)
theorem dX1_begin_153 : decode cX1_begin 153 = .ok (.aload_n 0, 1) := dk_42 (dk_at dksX1_begin_5 15 rfl rfl)
theorem dX1_begin_154 : decode cX1_begin 154 = .ok (.checkcast 197, 3) := dk_192 0 197 (dk_at dksX1_begin_5 16 rfl rfl)
theorem dX1_begin_157 : decode cX1_begin 157 = .ok (.invokevirtual 254, 3) := dk_182 0 254 (dk_at dksX1_begin_5 19 rfl rfl)
theorem dX1_begin_160 : decode cX1_begin 160 = .ok (.goto 56, 3) := dk_167 0 56 (dk_at dksX1_begin_6 0 rfl rfl)
theorem dX1_begin_163 : decode cX1_begin 163 = .ok (.aload_n 0, 1) := dk_42 (dk_at dksX1_begin_6 3 rfl rfl)
theorem dX1_begin_164 : decode cX1_begin 164 = .ok (.checkcast 174, 3) := dk_192 0 174 (dk_at dksX1_begin_6 4 rfl rfl)
theorem dX1_begin_167 : decode cX1_begin 167 = .ok (.invokevirtual 256, 3) := dk_182 1 0 (dk_at dksX1_begin_6 7 rfl rfl)
theorem dX1_begin_170 : decode cX1_begin 170 = .ok (.goto 46, 3) := dk_167 0 46 (dk_at dksX1_begin_6 10 rfl rfl)
theorem dX1_begin_173 : decode cX1_begin 173 = .ok (.aload_n 0, 1) := dk_42 (dk_at dksX1_begin_6 13 rfl rfl)
theorem dX1_begin_174 : decode cX1_begin 174 = .ok (.checkcast 210, 3) := dk_192 0 210 (dk_at dksX1_begin_6 14 rfl rfl)
theorem dX1_begin_177 : decode cX1_begin 177 = .ok (.getfield 257, 3) := dk_180 1 1 (dk_at dksX1_begin_6 17 rfl rfl)
theorem dX1_begin_180 : decode cX1_begin 180 = .ok (.invokevirtual 261, 3) := dk_182 1 5 (dk_at dksX1_begin_6 20 rfl rfl)
theorem dX1_begin_183 : decode cX1_begin 183 = .ok (.goto 33, 3) := dk_167 0 33 (dk_at dksX1_begin_7 0 rfl rfl)
theorem dX1_begin_186 : decode cX1_begin 186 = .ok (.aload_n 0, 1) := dk_42 (dk_at dksX1_begin_7 3 rfl rfl)
theorem dX1_begin_187 : decode cX1_begin 187 = .ok (.checkcast 213, 3) := dk_192 0 213 (dk_at dksX1_begin_7 4 rfl rfl)
theorem dX1_begin_190 : decode cX1_begin 190 = .ok (.getfield 266, 3) := dk_180 1 10 (dk_at dksX1_begin_7 7 rfl rfl)
theorem dX1_begin_193 : decode cX1_begin 193 = .ok (.invokevirtual 261, 3) := dk_182 1 5 (dk_at dksX1_begin_7 10 rfl rfl)
theorem dX1_begin_196 : decode cX1_begin 196 = .ok (.aload_n 0, 1) := dk_42 (dk_at dksX1_begin_7 13 rfl rfl)
theorem dX1_begin_197 : decode cX1_begin 197 = .ok (.checkcast 213, 3) := dk_192 0 213 (dk_at dksX1_begin_7 14 rfl rfl)
theorem dX1_begin_200 : decode cX1_begin 200 = .ok (.iconst 0, 1) := dk_3 (dk_at dksX1_begin_7 17 rfl rfl)
theorem dX1_begin_201 : decode cX1_begin 201 = .ok (.putfield 267, 3) := dk_181 1 11 (dk_at dksX1_begin_7 18 rfl rfl)
theorem dX1_begin_204 : decode cX1_begin 204 = .ok (.goto 12, 3) := dk_167 0 12 (dk_at dksX1_begin_7 21 rfl rfl)
theorem dX1_begin_207 : decode cX1_begin 207 = .ok (.aload_n 0, 1) := dk_42 (dk_at dksX1_begin_8 0 rfl rfl)
theorem dX1_begin_208 : decode cX1_begin 208 = .ok (.checkcast 219, 3) := dk_192 0 219 (dk_at dksX1_begin_8 1 rfl rfl)
theorem dX1_begin_211 : decode cX1_begin 211 = .ok (.iload_n 1, 1) := dk_27 (dk_at dksX1_begin_8 4 rfl rfl)
theorem dX1_begin_212 : decode cX1_begin 212 = .ok (.iload_n 2, 1) := dk_28 (dk_at dksX1_begin_8 5 rfl rfl)
theorem dX1_begin_213 : decode cX1_begin 213 = .ok (.invokevirtual 270, 3) := dk_182 1 14 (dk_at dksX1_begin_8 6 rfl rfl)
theorem dX1_begin_216 : decode cX1_begin 216 = .ok (.return_, 1) := dk_177 (dk_at dksX1_begin_8 9 rfl rfl)
abbrev cX1_keep : ByteArray := prog_1_method_26_code
def yX1_keep : MethodName := ⟨RX1, "keep", "(LLibraryDesk$Thing;I)I"⟩
def dkwX1_keep_1 : List UInt8 := [29, 172]
abbrev dktX1_keep_1 : List UInt8 := dkwX1_keep_1 ++ []
def dkwX1_keep_0 : List UInt8 := [42, 182, 0, 233, 62, 43, 4, 181, 0, 226, 42, 180, 0, 51, 29, 43, 83, 42, 180, 0, 55, 29, 28, 79]
abbrev dktX1_keep_0 : List UInt8 := dkwX1_keep_0 ++ dktX1_keep_1
theorem dksX1_keep_0 : cX1_keep.data.toList.drop 0 = dktX1_keep_0 := by decide +kernel
theorem dksX1_keep_1 : cX1_keep.data.toList.drop 24 = dktX1_keep_1 := dk_seg dksX1_keep_0 24 rfl rfl
theorem dX1_keep_0 : decode cX1_keep 0 = .ok (.aload_n 0, 1) := dk_42 (dk_at dksX1_keep_0 0 rfl rfl)
theorem dX1_keep_1 : decode cX1_keep 1 = .ok (.invokevirtual 233, 3) := dk_182 0 233 (dk_at dksX1_keep_0 1 rfl rfl)
theorem dX1_keep_4 : decode cX1_keep 4 = .ok (.istore_n 3, 1) := dk_62 (dk_at dksX1_keep_0 4 rfl rfl)
theorem dX1_keep_5 : decode cX1_keep 5 = .ok (.aload_n 1, 1) := dk_43 (dk_at dksX1_keep_0 5 rfl rfl)
theorem dX1_keep_6 : decode cX1_keep 6 = .ok (.iconst 1, 1) := dk_4 (dk_at dksX1_keep_0 6 rfl rfl)
theorem dX1_keep_7 : decode cX1_keep 7 = .ok (.putfield 226, 3) := dk_181 0 226 (dk_at dksX1_keep_0 7 rfl rfl)
theorem dX1_keep_10 : decode cX1_keep 10 = .ok (.aload_n 0, 1) := dk_42 (dk_at dksX1_keep_0 10 rfl rfl)
theorem dX1_keep_11 : decode cX1_keep 11 = .ok (.getfield 51, 3) := dk_180 0 51 (dk_at dksX1_keep_0 11 rfl rfl)
theorem dX1_keep_14 : decode cX1_keep 14 = .ok (.iload_n 3, 1) := dk_29 (dk_at dksX1_keep_0 14 rfl rfl)
theorem dX1_keep_15 : decode cX1_keep 15 = .ok (.aload_n 1, 1) := dk_43 (dk_at dksX1_keep_0 15 rfl rfl)
theorem dX1_keep_16 : decode cX1_keep 16 = .ok (.aastore, 1) := dk_83 (dk_at dksX1_keep_0 16 rfl rfl)
theorem dX1_keep_17 : decode cX1_keep 17 = .ok (.aload_n 0, 1) := dk_42 (dk_at dksX1_keep_0 17 rfl rfl)
theorem dX1_keep_18 : decode cX1_keep 18 = .ok (.getfield 55, 3) := dk_180 0 55 (dk_at dksX1_keep_0 18 rfl rfl)
theorem dX1_keep_21 : decode cX1_keep 21 = .ok (.iload_n 3, 1) := dk_29 (dk_at dksX1_keep_0 21 rfl rfl)
theorem dX1_keep_22 : decode cX1_keep 22 = .ok (.iload_n 2, 1) := dk_28 (dk_at dksX1_keep_0 22 rfl rfl)
theorem dX1_keep_23 : decode cX1_keep 23 = .ok (.iastore, 1) := dk_79 (dk_at dksX1_keep_0 23 rfl rfl)
theorem dX1_keep_24 : decode cX1_keep 24 = .ok (.iload_n 3, 1) := dk_29 (dk_at dksX1_keep_1 0 rfl rfl)
theorem dX1_keep_25 : decode cX1_keep 25 = .ok (.ireturn, 1) := dk_172 (dk_at dksX1_keep_1 1 rfl rfl)
abbrev cX1_drop : ByteArray := prog_1_method_31_code
def yX1_drop : MethodName := ⟨RX1, "drop", "(I)I"⟩
def dkwX1_drop_5 : List UInt8 := [182, 1, 48, 132, 3, 1, 4, 54, 4, 132, 5, 1, 167, 255, 196, 167, 255, 182, 29, 172]
abbrev dktX1_drop_5 : List UInt8 := dkwX1_drop_5 ++ []
def dkwX1_drop_4 : List UInt8 := [155, 0, 33, 42, 180, 0, 51, 42, 180, 0, 55, 21, 5, 46, 50, 198, 0, 6, 167, 0, 15, 42, 21, 5]
abbrev dktX1_drop_4 : List UInt8 := dkwX1_drop_4 ++ dktX1_drop_5
def dkwX1_drop_3 : List UInt8 := [16, 24, 162, 0, 59, 42, 180, 0, 51, 21, 5, 50, 198, 0, 43, 42, 180, 0, 55, 21, 5, 46]
abbrev dktX1_drop_3 : List UInt8 := dkwX1_drop_3 ++ dktX1_drop_4
def dkwX1_drop_2 : List UInt8 := [42, 27, 182, 1, 48, 4, 62, 4, 54, 4, 21, 4, 153, 0, 75, 3, 54, 4, 3, 54, 5, 21, 5]
abbrev dktX1_drop_2 : List UInt8 := dkwX1_drop_2 ++ dktX1_drop_3
def dkwX1_drop_1 : List UInt8 := [154, 0, 20, 44, 192, 0, 219, 180, 1, 45, 180, 1, 40, 154, 0, 7, 4, 167, 0, 4, 3, 184, 0, 176]
abbrev dktX1_drop_1 : List UInt8 := dkwX1_drop_1 ++ dktX1_drop_2
def dkwX1_drop_0 : List UInt8 := [42, 27, 182, 0, 155, 77, 44, 193, 0, 219, 153, 0, 37, 44, 192, 0, 219, 180, 1, 36, 180, 1, 40]
abbrev dktX1_drop_0 : List UInt8 := dkwX1_drop_0 ++ dktX1_drop_1
theorem dksX1_drop_0 : cX1_drop.data.toList.drop 0 = dktX1_drop_0 := by decide +kernel
theorem dksX1_drop_1 : cX1_drop.data.toList.drop 23 = dktX1_drop_1 := dk_seg dksX1_drop_0 23 rfl rfl
theorem dksX1_drop_2 : cX1_drop.data.toList.drop 47 = dktX1_drop_2 := dk_seg dksX1_drop_1 24 rfl rfl
theorem dksX1_drop_3 : cX1_drop.data.toList.drop 70 = dktX1_drop_3 := dk_seg dksX1_drop_2 23 rfl rfl
theorem dksX1_drop_4 : cX1_drop.data.toList.drop 92 = dktX1_drop_4 := dk_seg dksX1_drop_3 22 rfl rfl
theorem dksX1_drop_5 : cX1_drop.data.toList.drop 116 = dktX1_drop_5 := dk_seg dksX1_drop_4 24 rfl rfl
theorem dX1_drop_0 : decode cX1_drop 0 = .ok (.aload_n 0, 1) := dk_42 (dk_at dksX1_drop_0 0 rfl rfl)
theorem dX1_drop_1 : decode cX1_drop 1 = .ok (.iload_n 1, 1) := dk_27 (dk_at dksX1_drop_0 1 rfl rfl)
theorem dX1_drop_2 : decode cX1_drop 2 = .ok (.invokevirtual 155, 3) := dk_182 0 155 (dk_at dksX1_drop_0 2 rfl rfl)
theorem dX1_drop_5 : decode cX1_drop 5 = .ok (.astore_n 2, 1) := dk_77 (dk_at dksX1_drop_0 5 rfl rfl)
theorem dX1_drop_6 : decode cX1_drop 6 = .ok (.aload_n 2, 1) := dk_44 (dk_at dksX1_drop_0 6 rfl rfl)
theorem dX1_drop_7 : decode cX1_drop 7 = .ok (.instanceof 219, 3) := dk_193 0 219 (dk_at dksX1_drop_0 7 rfl rfl)
theorem dX1_drop_10 : decode cX1_drop 10 = .ok (.ifCond .eq 37, 3) := dk_153 0 37 (dk_at dksX1_drop_0 10 rfl rfl)
theorem dX1_drop_13 : decode cX1_drop 13 = .ok (.aload_n 2, 1) := dk_44 (dk_at dksX1_drop_0 13 rfl rfl)
theorem dX1_drop_14 : decode cX1_drop 14 = .ok (.checkcast 219, 3) := dk_192 0 219 (dk_at dksX1_drop_0 14 rfl rfl)
theorem dX1_drop_17 : decode cX1_drop 17 = .ok (.getfield 292, 3) := dk_180 1 36 (dk_at dksX1_drop_0 17 rfl rfl)
theorem dX1_drop_20 : decode cX1_drop 20 = .ok (.getfield 296, 3) := dk_180 1 40 (dk_at dksX1_drop_0 20 rfl rfl)
theorem dX1_drop_23 : decode cX1_drop 23 = .ok (.ifCond .ne 20, 3) := dk_154 0 20 (dk_at dksX1_drop_1 0 rfl rfl)
theorem dX1_drop_26 : decode cX1_drop 26 = .ok (.aload_n 2, 1) := dk_44 (dk_at dksX1_drop_1 3 rfl rfl)
theorem dX1_drop_27 : decode cX1_drop 27 = .ok (.checkcast 219, 3) := dk_192 0 219 (dk_at dksX1_drop_1 4 rfl rfl)
theorem dX1_drop_30 : decode cX1_drop 30 = .ok (.getfield 301, 3) := dk_180 1 45 (dk_at dksX1_drop_1 7 rfl rfl)
theorem dX1_drop_33 : decode cX1_drop 33 = .ok (.getfield 296, 3) := dk_180 1 40 (dk_at dksX1_drop_1 10 rfl rfl)
theorem dX1_drop_36 : decode cX1_drop 36 = .ok (.ifCond .ne 7, 3) := dk_154 0 7 (dk_at dksX1_drop_1 13 rfl rfl)
theorem dX1_drop_39 : decode cX1_drop 39 = .ok (.iconst 1, 1) := dk_4 (dk_at dksX1_drop_1 16 rfl rfl)
theorem dX1_drop_40 : decode cX1_drop 40 = .ok (.goto 4, 3) := dk_167 0 4 (dk_at dksX1_drop_1 17 rfl rfl)
theorem dX1_drop_43 : decode cX1_drop 43 = .ok (.iconst 0, 1) := dk_3 (dk_at dksX1_drop_1 20 rfl rfl)
theorem dX1_drop_44 : decode cX1_drop 44 = .ok (.invokestatic 176, 3) := dk_184 0 176 (dk_at dksX1_drop_1 21 rfl rfl)
theorem dX1_drop_47 : decode cX1_drop 47 = .ok (.aload_n 0, 1) := dk_42 (dk_at dksX1_drop_2 0 rfl rfl)
theorem dX1_drop_48 : decode cX1_drop 48 = .ok (.iload_n 1, 1) := dk_27 (dk_at dksX1_drop_2 1 rfl rfl)
theorem dX1_drop_49 : decode cX1_drop 49 = .ok (.invokevirtual 304, 3) := dk_182 1 48 (dk_at dksX1_drop_2 2 rfl rfl)
theorem dX1_drop_52 : decode cX1_drop 52 = .ok (.iconst 1, 1) := dk_4 (dk_at dksX1_drop_2 5 rfl rfl)
theorem dX1_drop_53 : decode cX1_drop 53 = .ok (.istore_n 3, 1) := dk_62 (dk_at dksX1_drop_2 6 rfl rfl)
theorem dX1_drop_54 : decode cX1_drop 54 = .ok (.iconst 1, 1) := dk_4 (dk_at dksX1_drop_2 7 rfl rfl)
theorem dX1_drop_55 : decode cX1_drop 55 = .ok (.istore 4, 2) := dk_54 4 (dk_at dksX1_drop_2 8 rfl rfl)
theorem dX1_drop_57 : decode cX1_drop 57 = .ok (.iload 4, 2) := dk_21 4 (dk_at dksX1_drop_2 10 rfl rfl)
theorem dX1_drop_59 : decode cX1_drop 59 = .ok (.ifCond .eq 75, 3) := dk_153 0 75 (dk_at dksX1_drop_2 12 rfl rfl)
theorem dX1_drop_62 : decode cX1_drop 62 = .ok (.iconst 0, 1) := dk_3 (dk_at dksX1_drop_2 15 rfl rfl)
theorem dX1_drop_63 : decode cX1_drop 63 = .ok (.istore 4, 2) := dk_54 4 (dk_at dksX1_drop_2 16 rfl rfl)
theorem dX1_drop_65 : decode cX1_drop 65 = .ok (.iconst 0, 1) := dk_3 (dk_at dksX1_drop_2 18 rfl rfl)
theorem dX1_drop_66 : decode cX1_drop 66 = .ok (.istore 5, 2) := dk_54 5 (dk_at dksX1_drop_2 19 rfl rfl)
theorem dX1_drop_68 : decode cX1_drop 68 = .ok (.iload 5, 2) := dk_21 5 (dk_at dksX1_drop_2 21 rfl rfl)
theorem dX1_drop_70 : decode cX1_drop 70 = .ok (.bipush 24, 2) := dk_16 24 (dk_at dksX1_drop_3 0 rfl rfl)
theorem dX1_drop_72 : decode cX1_drop 72 = .ok (.if_icmp .ge 59, 3) := dk_162 0 59 (dk_at dksX1_drop_3 2 rfl rfl)
theorem dX1_drop_75 : decode cX1_drop 75 = .ok (.aload_n 0, 1) := dk_42 (dk_at dksX1_drop_3 5 rfl rfl)
theorem dX1_drop_76 : decode cX1_drop 76 = .ok (.getfield 51, 3) := dk_180 0 51 (dk_at dksX1_drop_3 6 rfl rfl)
theorem dX1_drop_79 : decode cX1_drop 79 = .ok (.iload 5, 2) := dk_21 5 (dk_at dksX1_drop_3 9 rfl rfl)
theorem dX1_drop_81 : decode cX1_drop 81 = .ok (.aaload, 1) := dk_50 (dk_at dksX1_drop_3 11 rfl rfl)
theorem dX1_drop_82 : decode cX1_drop 82 = .ok (.ifnull 43, 3) := dk_198 0 43 (dk_at dksX1_drop_3 12 rfl rfl)
theorem dX1_drop_85 : decode cX1_drop 85 = .ok (.aload_n 0, 1) := dk_42 (dk_at dksX1_drop_3 15 rfl rfl)
theorem dX1_drop_86 : decode cX1_drop 86 = .ok (.getfield 55, 3) := dk_180 0 55 (dk_at dksX1_drop_3 16 rfl rfl)
theorem dX1_drop_89 : decode cX1_drop 89 = .ok (.iload 5, 2) := dk_21 5 (dk_at dksX1_drop_3 19 rfl rfl)
theorem dX1_drop_91 : decode cX1_drop 91 = .ok (.iaload, 1) := dk_46 (dk_at dksX1_drop_3 21 rfl rfl)
theorem dX1_drop_92 : decode cX1_drop 92 = .ok (.ifCond .lt 33, 3) := dk_155 0 33 (dk_at dksX1_drop_4 0 rfl rfl)
theorem dX1_drop_95 : decode cX1_drop 95 = .ok (.aload_n 0, 1) := dk_42 (dk_at dksX1_drop_4 3 rfl rfl)
theorem dX1_drop_96 : decode cX1_drop 96 = .ok (.getfield 51, 3) := dk_180 0 51 (dk_at dksX1_drop_4 4 rfl rfl)
theorem dX1_drop_99 : decode cX1_drop 99 = .ok (.aload_n 0, 1) := dk_42 (dk_at dksX1_drop_4 7 rfl rfl)
theorem dX1_drop_100 : decode cX1_drop 100 = .ok (.getfield 55, 3) := dk_180 0 55 (dk_at dksX1_drop_4 8 rfl rfl)
theorem dX1_drop_103 : decode cX1_drop 103 = .ok (.iload 5, 2) := dk_21 5 (dk_at dksX1_drop_4 11 rfl rfl)
theorem dX1_drop_105 : decode cX1_drop 105 = .ok (.iaload, 1) := dk_46 (dk_at dksX1_drop_4 13 rfl rfl)
theorem dX1_drop_106 : decode cX1_drop 106 = .ok (.aaload, 1) := dk_50 (dk_at dksX1_drop_4 14 rfl rfl)
theorem dX1_drop_107 : decode cX1_drop 107 = .ok (.ifnull 6, 3) := dk_198 0 6 (dk_at dksX1_drop_4 15 rfl rfl)
theorem dX1_drop_110 : decode cX1_drop 110 = .ok (.goto 15, 3) := dk_167 0 15 (dk_at dksX1_drop_4 18 rfl rfl)
theorem dX1_drop_113 : decode cX1_drop 113 = .ok (.aload_n 0, 1) := dk_42 (dk_at dksX1_drop_4 21 rfl rfl)
theorem dX1_drop_114 : decode cX1_drop 114 = .ok (.iload 5, 2) := dk_21 5 (dk_at dksX1_drop_4 22 rfl rfl)
theorem dX1_drop_116 : decode cX1_drop 116 = .ok (.invokevirtual 304, 3) := dk_182 1 48 (dk_at dksX1_drop_5 0 rfl rfl)
theorem dX1_drop_119 : decode cX1_drop 119 = .ok (.iinc 3 1, 3) := dk_132 3 1 (dk_at dksX1_drop_5 3 rfl rfl)
theorem dX1_drop_122 : decode cX1_drop 122 = .ok (.iconst 1, 1) := dk_4 (dk_at dksX1_drop_5 6 rfl rfl)
theorem dX1_drop_123 : decode cX1_drop 123 = .ok (.istore 4, 2) := dk_54 4 (dk_at dksX1_drop_5 7 rfl rfl)
theorem dX1_drop_125 : decode cX1_drop 125 = .ok (.iinc 5 1, 3) := dk_132 5 1 (dk_at dksX1_drop_5 9 rfl rfl)
theorem dX1_drop_128 : decode cX1_drop 128 = .ok (.goto (-60), 3) := dk_167 255 196 (dk_at dksX1_drop_5 12 rfl rfl)
theorem dX1_drop_131 : decode cX1_drop 131 = .ok (.goto (-74), 3) := dk_167 255 182 (dk_at dksX1_drop_5 15 rfl rfl)
theorem dX1_drop_134 : decode cX1_drop 134 = .ok (.iload_n 3, 1) := dk_29 (dk_at dksX1_drop_5 18 rfl rfl)
theorem dX1_drop_135 : decode cX1_drop 135 = .ok (.ireturn, 1) := dk_172 (dk_at dksX1_drop_5 19 rfl rfl)
abbrev cX1_thing : ByteArray := prog_1_method_17_code
def yX1_thing : MethodName := ⟨RX1, "thing", "(I)LLibraryDesk$Thing;"⟩
def dkwX1_thing_1 : List UInt8 := [184, 0, 152, 42, 180, 0, 51, 27, 50, 176]
abbrev dktX1_thing_1 : List UInt8 := dkwX1_thing_1 ++ []
def dkwX1_thing_0 : List UInt8 := [27, 155, 0, 22, 27, 16, 24, 162, 0, 16, 42, 180, 0, 51, 27, 50, 198, 0, 7, 4, 167, 0, 4, 3]
abbrev dktX1_thing_0 : List UInt8 := dkwX1_thing_0 ++ dktX1_thing_1
theorem dksX1_thing_0 : cX1_thing.data.toList.drop 0 = dktX1_thing_0 := by decide +kernel
theorem dksX1_thing_1 : cX1_thing.data.toList.drop 24 = dktX1_thing_1 := dk_seg dksX1_thing_0 24 rfl rfl
theorem dX1_thing_0 : decode cX1_thing 0 = .ok (.iload_n 1, 1) := dk_27 (dk_at dksX1_thing_0 0 rfl rfl)
theorem dX1_thing_1 : decode cX1_thing 1 = .ok (.ifCond .lt 22, 3) := dk_155 0 22 (dk_at dksX1_thing_0 1 rfl rfl)
theorem dX1_thing_4 : decode cX1_thing 4 = .ok (.iload_n 1, 1) := dk_27 (dk_at dksX1_thing_0 4 rfl rfl)
theorem dX1_thing_5 : decode cX1_thing 5 = .ok (.bipush 24, 2) := dk_16 24 (dk_at dksX1_thing_0 5 rfl rfl)
theorem dX1_thing_7 : decode cX1_thing 7 = .ok (.if_icmp .ge 16, 3) := dk_162 0 16 (dk_at dksX1_thing_0 7 rfl rfl)
theorem dX1_thing_10 : decode cX1_thing 10 = .ok (.aload_n 0, 1) := dk_42 (dk_at dksX1_thing_0 10 rfl rfl)
theorem dX1_thing_11 : decode cX1_thing 11 = .ok (.getfield 51, 3) := dk_180 0 51 (dk_at dksX1_thing_0 11 rfl rfl)
theorem dX1_thing_14 : decode cX1_thing 14 = .ok (.iload_n 1, 1) := dk_27 (dk_at dksX1_thing_0 14 rfl rfl)
theorem dX1_thing_15 : decode cX1_thing 15 = .ok (.aaload, 1) := dk_50 (dk_at dksX1_thing_0 15 rfl rfl)
theorem dX1_thing_16 : decode cX1_thing 16 = .ok (.ifnull 7, 3) := dk_198 0 7 (dk_at dksX1_thing_0 16 rfl rfl)
theorem dX1_thing_19 : decode cX1_thing 19 = .ok (.iconst 1, 1) := dk_4 (dk_at dksX1_thing_0 19 rfl rfl)
theorem dX1_thing_20 : decode cX1_thing 20 = .ok (.goto 4, 3) := dk_167 0 4 (dk_at dksX1_thing_0 20 rfl rfl)
theorem dX1_thing_23 : decode cX1_thing 23 = .ok (.iconst 0, 1) := dk_3 (dk_at dksX1_thing_0 23 rfl rfl)
theorem dX1_thing_24 : decode cX1_thing 24 = .ok (.invokestatic 152, 3) := dk_184 0 152 (dk_at dksX1_thing_1 0 rfl rfl)
theorem dX1_thing_27 : decode cX1_thing 27 = .ok (.aload_n 0, 1) := dk_42 (dk_at dksX1_thing_1 3 rfl rfl)
theorem dX1_thing_28 : decode cX1_thing 28 = .ok (.getfield 51, 3) := dk_180 0 51 (dk_at dksX1_thing_1 4 rfl rfl)
theorem dX1_thing_31 : decode cX1_thing 31 = .ok (.iload_n 1, 1) := dk_27 (dk_at dksX1_thing_1 7 rfl rfl)
theorem dX1_thing_32 : decode cX1_thing 32 = .ok (.aaload, 1) := dk_50 (dk_at dksX1_thing_1 8 rfl rfl)
theorem dX1_thing_33 : decode cX1_thing 33 = .ok (.areturn, 1) := dk_176 (dk_at dksX1_thing_1 9 rfl rfl)
abbrev cX1_there : ByteArray := prog_1_method_2_code
def yX1_there : MethodName := ⟨RX1, "there", "(Z)V"⟩
def dkwX1_there_0 : List UInt8 := [26, 154, 0, 11, 187, 0, 7, 89, 183, 0, 9, 191, 177]
abbrev dktX1_there_0 : List UInt8 := dkwX1_there_0 ++ []
theorem dksX1_there_0 : cX1_there.data.toList.drop 0 = dktX1_there_0 := by decide +kernel
theorem dX1_there_0 : decode cX1_there 0 = .ok (.iload_n 0, 1) := dk_26 (dk_at dksX1_there_0 0 rfl rfl)
theorem dX1_there_1 : decode cX1_there 1 = .ok (.ifCond .ne 11, 3) := dk_154 0 11 (dk_at dksX1_there_0 1 rfl rfl)
theorem dX1_there_4 : decode cX1_there 4 = .ok (.new 7, 3) := dk_187 0 7 (dk_at dksX1_there_0 4 rfl rfl)
theorem dX1_there_7 : decode cX1_there 7 = .ok (.dup, 1) := dk_89 (dk_at dksX1_there_0 7 rfl rfl)
theorem dX1_there_8 : decode cX1_there 8 = .ok (.invokespecial 9, 3) := dk_183 0 9 (dk_at dksX1_there_0 8 rfl rfl)
theorem dX1_there_11 : decode cX1_there 11 = .ok (.athrow, 1) := dk_191 (dk_at dksX1_there_0 11 rfl rfl)
theorem dX1_there_12 : decode cX1_there 12 = .ok (.return_, 1) := dk_177 (dk_at dksX1_there_0 12 rfl rfl)
abbrev cX1_release : ByteArray := prog_1_method_32_code
def yX1_release : MethodName := ⟨RX1, "release", "(I)V"⟩
def dkwX1_release_0 : List UInt8 := [42, 180, 0, 51, 27, 50, 3, 181, 0, 226, 42, 180, 0, 51, 27, 1, 83, 177]
abbrev dktX1_release_0 : List UInt8 := dkwX1_release_0 ++ []
theorem dksX1_release_0 : cX1_release.data.toList.drop 0 = dktX1_release_0 := by decide +kernel
theorem dX1_release_0 : decode cX1_release 0 = .ok (.aload_n 0, 1) := dk_42 (dk_at dksX1_release_0 0 rfl rfl)
theorem dX1_release_1 : decode cX1_release 1 = .ok (.getfield 51, 3) := dk_180 0 51 (dk_at dksX1_release_0 1 rfl rfl)
theorem dX1_release_4 : decode cX1_release 4 = .ok (.iload_n 1, 1) := dk_27 (dk_at dksX1_release_0 4 rfl rfl)
theorem dX1_release_5 : decode cX1_release 5 = .ok (.aaload, 1) := dk_50 (dk_at dksX1_release_0 5 rfl rfl)
theorem dX1_release_6 : decode cX1_release 6 = .ok (.iconst 0, 1) := dk_3 (dk_at dksX1_release_0 6 rfl rfl)
theorem dX1_release_7 : decode cX1_release 7 = .ok (.putfield 226, 3) := dk_181 0 226 (dk_at dksX1_release_0 7 rfl rfl)
theorem dX1_release_10 : decode cX1_release 10 = .ok (.aload_n 0, 1) := dk_42 (dk_at dksX1_release_0 10 rfl rfl)
theorem dX1_release_11 : decode cX1_release 11 = .ok (.getfield 51, 3) := dk_180 0 51 (dk_at dksX1_release_0 11 rfl rfl)
theorem dX1_release_14 : decode cX1_release 14 = .ok (.iload_n 1, 1) := dk_27 (dk_at dksX1_release_0 14 rfl rfl)
theorem dX1_release_15 : decode cX1_release 15 = .ok (.aconst_null, 1) := dk_1 (dk_at dksX1_release_0 15 rfl rfl)
theorem dX1_release_16 : decode cX1_release 16 = .ok (.aastore, 1) := dk_83 (dk_at dksX1_release_0 16 rfl rfl)
theorem dX1_release_17 : decode cX1_release 17 = .ok (.return_, 1) := dk_177 (dk_at dksX1_release_0 17 rfl rfl)
abbrev cX1_list : ByteArray := prog_1_method_33_code
def yX1_list : MethodName := ⟨RX1, "list", "(IIII)J"⟩
def dkwX1_list_9 : List UInt8 := [180, 0, 65, 25, 5, 25, 6, 28, 16, 10, 160, 0, 7, 4, 167, 0, 4, 3, 182, 1, 77, 133, 173]
abbrev dktX1_list_9 : List UInt8 := dkwX1_list_9 ++ []
def dkwX1_list_8 : List UInt8 := [42, 180, 0, 65, 25, 5, 29, 25, 6, 182, 1, 69, 133, 173, 25, 5, 25, 6, 184, 1, 73, 133, 173, 42]
abbrev dktX1_list_8 : List UInt8 := dkwX1_list_8 ++ dktX1_list_9
def dkwX1_list_7 : List UInt8 := [171, 0, 0, 0, 0, 49, 0, 0, 0, 2, 0, 0, 0, 9, 0, 0, 0, 26, 0, 0, 0, 26, 0, 0, 0, 40]
abbrev dktX1_list_7 : List UInt8 := dkwX1_list_7 ++ dktX1_list_8
def dkwX1_list_6 : List UInt8 := [28]
abbrev dktX1_list_6 : List UInt8 := dkwX1_list_6 ++ dktX1_list_7
def dkwX1_list_5 : List UInt8 := [25, 6, 199, 0, 17, 42, 180, 0, 65, 25, 5, 28, 29, 21, 4, 182, 1, 65, 173, 25, 6, 182, 1, 62]
abbrev dktX1_list_5 : List UInt8 := dkwX1_list_5 ++ dktX1_list_6
def dkwX1_list_4 : List UInt8 := [161, 0, 14, 29, 17, 7, 208, 163, 0, 7, 4, 167, 0, 4, 3, 184, 0, 146, 25, 5, 182, 1, 62]
abbrev dktX1_list_4 : List UInt8 := dkwX1_list_4 ++ dktX1_list_5
def dkwX1_list_3 : List UInt8 := [160, 0, 14, 21, 4, 155, 0, 31, 21, 4, 6, 163, 0, 25, 28, 16, 28, 160, 0, 15, 29, 2]
abbrev dktX1_list_3 : List UInt8 := dkwX1_list_3 ++ dktX1_list_4
def dkwX1_list_2 : List UInt8 := [16, 30, 163, 0, 57, 28, 16, 12, 160, 0, 12, 29, 155, 0, 47, 29, 6, 163, 0, 42, 28, 16, 19]
abbrev dktX1_list_2 : List UInt8 := dkwX1_list_2 ++ dktX1_list_3
def dkwX1_list_1 : List UInt8 := [184, 1, 51, 153, 0, 12, 42, 21, 4, 182, 1, 58, 167, 0, 4, 1, 58, 6, 28, 155, 0, 63, 28]
abbrev dktX1_list_1 : List UInt8 := dkwX1_list_1 ++ dktX1_list_2
def dkwX1_list_0 : List UInt8 := [28, 184, 1, 51, 153, 0, 10, 42, 27, 21, 4, 182, 1, 55, 42, 27, 182, 1, 58, 58, 5, 28]
abbrev dktX1_list_0 : List UInt8 := dkwX1_list_0 ++ dktX1_list_1
theorem dksX1_list_0 : cX1_list.data.toList.drop 0 = dktX1_list_0 := by decide +kernel
theorem dksX1_list_1 : cX1_list.data.toList.drop 22 = dktX1_list_1 := dk_seg dksX1_list_0 22 rfl rfl
theorem dksX1_list_2 : cX1_list.data.toList.drop 45 = dktX1_list_2 := dk_seg dksX1_list_1 23 rfl rfl
theorem dksX1_list_3 : cX1_list.data.toList.drop 68 = dktX1_list_3 := dk_seg dksX1_list_2 23 rfl rfl
theorem dksX1_list_4 : cX1_list.data.toList.drop 90 = dktX1_list_4 := dk_seg dksX1_list_3 22 rfl rfl
theorem dksX1_list_5 : cX1_list.data.toList.drop 113 = dktX1_list_5 := dk_seg dksX1_list_4 23 rfl rfl
theorem dksX1_list_6 : cX1_list.data.toList.drop 137 = dktX1_list_6 := dk_seg dksX1_list_5 24 rfl rfl
theorem dksX1_list_7 : cX1_list.data.toList.drop 138 = dktX1_list_7 := dk_seg dksX1_list_6 1 rfl rfl
theorem dksX1_list_8 : cX1_list.data.toList.drop 164 = dktX1_list_8 := dk_seg dksX1_list_7 26 rfl rfl
theorem dksX1_list_9 : cX1_list.data.toList.drop 188 = dktX1_list_9 := dk_seg dksX1_list_8 24 rfl rfl
theorem dX1_list_0 : decode cX1_list 0 = .ok (.iload_n 2, 1) := dk_28 (dk_at dksX1_list_0 0 rfl rfl)
theorem dX1_list_1 : decode cX1_list 1 = .ok (.invokestatic 307, 3) := dk_184 1 51 (dk_at dksX1_list_0 1 rfl rfl)
theorem dX1_list_4 : decode cX1_list 4 = .ok (.ifCond .eq 10, 3) := dk_153 0 10 (dk_at dksX1_list_0 4 rfl rfl)
theorem dX1_list_7 : decode cX1_list 7 = .ok (.aload_n 0, 1) := dk_42 (dk_at dksX1_list_0 7 rfl rfl)
theorem dX1_list_8 : decode cX1_list 8 = .ok (.iload_n 1, 1) := dk_27 (dk_at dksX1_list_0 8 rfl rfl)
theorem dX1_list_9 : decode cX1_list 9 = .ok (.iload 4, 2) := dk_21 4 (dk_at dksX1_list_0 9 rfl rfl)
theorem dX1_list_11 : decode cX1_list 11 = .ok (.invokevirtual 311, 3) := dk_182 1 55 (dk_at dksX1_list_0 11 rfl rfl)
theorem dX1_list_14 : decode cX1_list 14 = .ok (.aload_n 0, 1) := dk_42 (dk_at dksX1_list_0 14 rfl rfl)
theorem dX1_list_15 : decode cX1_list 15 = .ok (.iload_n 1, 1) := dk_27 (dk_at dksX1_list_0 15 rfl rfl)
theorem dX1_list_16 : decode cX1_list 16 = .ok (.invokevirtual 314, 3) := dk_182 1 58 (dk_at dksX1_list_0 16 rfl rfl)
theorem dX1_list_19 : decode cX1_list 19 = .ok (.astore 5, 2) := dk_58 5 (dk_at dksX1_list_0 19 rfl rfl)
theorem dX1_list_21 : decode cX1_list 21 = .ok (.iload_n 2, 1) := dk_28 (dk_at dksX1_list_0 21 rfl rfl)
theorem dX1_list_22 : decode cX1_list 22 = .ok (.invokestatic 307, 3) := dk_184 1 51 (dk_at dksX1_list_1 0 rfl rfl)
theorem dX1_list_25 : decode cX1_list 25 = .ok (.ifCond .eq 12, 3) := dk_153 0 12 (dk_at dksX1_list_1 3 rfl rfl)
theorem dX1_list_28 : decode cX1_list 28 = .ok (.aload_n 0, 1) := dk_42 (dk_at dksX1_list_1 6 rfl rfl)
theorem dX1_list_29 : decode cX1_list 29 = .ok (.iload 4, 2) := dk_21 4 (dk_at dksX1_list_1 7 rfl rfl)
theorem dX1_list_31 : decode cX1_list 31 = .ok (.invokevirtual 314, 3) := dk_182 1 58 (dk_at dksX1_list_1 9 rfl rfl)
theorem dX1_list_34 : decode cX1_list 34 = .ok (.goto 4, 3) := dk_167 0 4 (dk_at dksX1_list_1 12 rfl rfl)
theorem dX1_list_37 : decode cX1_list 37 = .ok (.aconst_null, 1) := dk_1 (dk_at dksX1_list_1 15 rfl rfl)
theorem dX1_list_38 : decode cX1_list 38 = .ok (.astore 6, 2) := dk_58 6 (dk_at dksX1_list_1 16 rfl rfl)
theorem dX1_list_40 : decode cX1_list 40 = .ok (.iload_n 2, 1) := dk_28 (dk_at dksX1_list_1 18 rfl rfl)
theorem dX1_list_41 : decode cX1_list 41 = .ok (.ifCond .lt 63, 3) := dk_155 0 63 (dk_at dksX1_list_1 19 rfl rfl)
theorem dX1_list_44 : decode cX1_list 44 = .ok (.iload_n 2, 1) := dk_28 (dk_at dksX1_list_1 22 rfl rfl)
theorem dX1_list_45 : decode cX1_list 45 = .ok (.bipush 30, 2) := dk_16 30 (dk_at dksX1_list_2 0 rfl rfl)
theorem dX1_list_47 : decode cX1_list 47 = .ok (.if_icmp .gt 57, 3) := dk_163 0 57 (dk_at dksX1_list_2 2 rfl rfl)
theorem dX1_list_50 : decode cX1_list 50 = .ok (.iload_n 2, 1) := dk_28 (dk_at dksX1_list_2 5 rfl rfl)
theorem dX1_list_51 : decode cX1_list 51 = .ok (.bipush 12, 2) := dk_16 12 (dk_at dksX1_list_2 6 rfl rfl)
theorem dX1_list_53 : decode cX1_list 53 = .ok (.if_icmp .ne 12, 3) := dk_160 0 12 (dk_at dksX1_list_2 8 rfl rfl)
theorem dX1_list_56 : decode cX1_list 56 = .ok (.iload_n 3, 1) := dk_29 (dk_at dksX1_list_2 11 rfl rfl)
theorem dX1_list_57 : decode cX1_list 57 = .ok (.ifCond .lt 47, 3) := dk_155 0 47 (dk_at dksX1_list_2 12 rfl rfl)
theorem dX1_list_60 : decode cX1_list 60 = .ok (.iload_n 3, 1) := dk_29 (dk_at dksX1_list_2 15 rfl rfl)
theorem dX1_list_61 : decode cX1_list 61 = .ok (.iconst 3, 1) := dk_6 (dk_at dksX1_list_2 16 rfl rfl)
theorem dX1_list_62 : decode cX1_list 62 = .ok (.if_icmp .gt 42, 3) := dk_163 0 42 (dk_at dksX1_list_2 17 rfl rfl)
theorem dX1_list_65 : decode cX1_list 65 = .ok (.iload_n 2, 1) := dk_28 (dk_at dksX1_list_2 20 rfl rfl)
theorem dX1_list_66 : decode cX1_list 66 = .ok (.bipush 19, 2) := dk_16 19 (dk_at dksX1_list_2 21 rfl rfl)
theorem dX1_list_68 : decode cX1_list 68 = .ok (.if_icmp .ne 14, 3) := dk_160 0 14 (dk_at dksX1_list_3 0 rfl rfl)
theorem dX1_list_71 : decode cX1_list 71 = .ok (.iload 4, 2) := dk_21 4 (dk_at dksX1_list_3 3 rfl rfl)
theorem dX1_list_73 : decode cX1_list 73 = .ok (.ifCond .lt 31, 3) := dk_155 0 31 (dk_at dksX1_list_3 5 rfl rfl)
theorem dX1_list_76 : decode cX1_list 76 = .ok (.iload 4, 2) := dk_21 4 (dk_at dksX1_list_3 8 rfl rfl)
theorem dX1_list_78 : decode cX1_list 78 = .ok (.iconst 3, 1) := dk_6 (dk_at dksX1_list_3 10 rfl rfl)
theorem dX1_list_79 : decode cX1_list 79 = .ok (.if_icmp .gt 25, 3) := dk_163 0 25 (dk_at dksX1_list_3 11 rfl rfl)
theorem dX1_list_82 : decode cX1_list 82 = .ok (.iload_n 2, 1) := dk_28 (dk_at dksX1_list_3 14 rfl rfl)
theorem dX1_list_83 : decode cX1_list 83 = .ok (.bipush 28, 2) := dk_16 28 (dk_at dksX1_list_3 15 rfl rfl)
theorem dX1_list_85 : decode cX1_list 85 = .ok (.if_icmp .ne 15, 3) := dk_160 0 15 (dk_at dksX1_list_3 17 rfl rfl)
theorem dX1_list_88 : decode cX1_list 88 = .ok (.iload_n 3, 1) := dk_29 (dk_at dksX1_list_3 20 rfl rfl)
theorem dX1_list_89 : decode cX1_list 89 = .ok (.iconst (-1), 1) := dk_2 (dk_at dksX1_list_3 21 rfl rfl)
theorem dX1_list_90 : decode cX1_list 90 = .ok (.if_icmp .lt 14, 3) := dk_161 0 14 (dk_at dksX1_list_4 0 rfl rfl)
theorem dX1_list_93 : decode cX1_list 93 = .ok (.iload_n 3, 1) := dk_29 (dk_at dksX1_list_4 3 rfl rfl)
theorem dX1_list_94 : decode cX1_list 94 = .ok (.sipush 2000, 3) := dk_17 7 208 (dk_at dksX1_list_4 4 rfl rfl)
theorem dX1_list_97 : decode cX1_list 97 = .ok (.if_icmp .gt 7, 3) := dk_163 0 7 (dk_at dksX1_list_4 7 rfl rfl)
theorem dX1_list_100 : decode cX1_list 100 = .ok (.iconst 1, 1) := dk_4 (dk_at dksX1_list_4 10 rfl rfl)
theorem dX1_list_101 : decode cX1_list 101 = .ok (.goto 4, 3) := dk_167 0 4 (dk_at dksX1_list_4 11 rfl rfl)
theorem dX1_list_104 : decode cX1_list 104 = .ok (.iconst 0, 1) := dk_3 (dk_at dksX1_list_4 14 rfl rfl)
theorem dX1_list_105 : decode cX1_list 105 = .ok (.invokestatic 146, 3) := dk_184 0 146 (dk_at dksX1_list_4 15 rfl rfl)
theorem dX1_list_108 : decode cX1_list 108 = .ok (.aload 5, 2) := dk_25 5 (dk_at dksX1_list_4 18 rfl rfl)
theorem dX1_list_110 : decode cX1_list 110 = .ok (.invokevirtual 318, 3) := dk_182 1 62 (dk_at dksX1_list_4 20 rfl rfl)
theorem dX1_list_113 : decode cX1_list 113 = .ok (.aload 6, 2) := dk_25 6 (dk_at dksX1_list_5 0 rfl rfl)
theorem dX1_list_115 : decode cX1_list 115 = .ok (.ifnonnull 17, 3) := dk_199 0 17 (dk_at dksX1_list_5 2 rfl rfl)
theorem dX1_list_118 : decode cX1_list 118 = .ok (.aload_n 0, 1) := dk_42 (dk_at dksX1_list_5 5 rfl rfl)
theorem dX1_list_119 : decode cX1_list 119 = .ok (.getfield 65, 3) := dk_180 0 65 (dk_at dksX1_list_5 6 rfl rfl)
theorem dX1_list_122 : decode cX1_list 122 = .ok (.aload 5, 2) := dk_25 5 (dk_at dksX1_list_5 9 rfl rfl)
theorem dX1_list_124 : decode cX1_list 124 = .ok (.iload_n 2, 1) := dk_28 (dk_at dksX1_list_5 11 rfl rfl)
theorem dX1_list_125 : decode cX1_list 125 = .ok (.iload_n 3, 1) := dk_29 (dk_at dksX1_list_5 12 rfl rfl)
theorem dX1_list_126 : decode cX1_list 126 = .ok (.iload 4, 2) := dk_21 4 (dk_at dksX1_list_5 13 rfl rfl)
theorem dX1_list_128 : decode cX1_list 128 = .ok (.invokevirtual 321, 3) := dk_182 1 65 (dk_at dksX1_list_5 15 rfl rfl)
theorem dX1_list_131 : decode cX1_list 131 = .ok (.lreturn, 1) := dk_173 (dk_at dksX1_list_5 18 rfl rfl)
theorem dX1_list_132 : decode cX1_list 132 = .ok (.aload 6, 2) := dk_25 6 (dk_at dksX1_list_5 19 rfl rfl)
theorem dX1_list_134 : decode cX1_list 134 = .ok (.invokevirtual 318, 3) := dk_182 1 62 (dk_at dksX1_list_5 21 rfl rfl)
theorem dX1_list_137 : decode cX1_list 137 = .ok (.iload_n 2, 1) := dk_28 (dk_at dksX1_list_6 0 rfl rfl)
theorem dX1_list_138 : decode cX1_list 138 = .ok (.lookupswitch 49 #[(9, 26), (26, 40)], 26) := by decide +kernel
theorem dX1_list_164 : decode cX1_list 164 = .ok (.aload_n 0, 1) := dk_42 (dk_at dksX1_list_8 0 rfl rfl)
theorem dX1_list_165 : decode cX1_list 165 = .ok (.getfield 65, 3) := dk_180 0 65 (dk_at dksX1_list_8 1 rfl rfl)
theorem dX1_list_168 : decode cX1_list 168 = .ok (.aload 5, 2) := dk_25 5 (dk_at dksX1_list_8 4 rfl rfl)
theorem dX1_list_170 : decode cX1_list 170 = .ok (.iload_n 3, 1) := dk_29 (dk_at dksX1_list_8 6 rfl rfl)
theorem dX1_list_171 : decode cX1_list 171 = .ok (.aload 6, 2) := dk_25 6 (dk_at dksX1_list_8 7 rfl rfl)
theorem dX1_list_173 : decode cX1_list 173 = .ok (.invokevirtual 325, 3) := dk_182 1 69 (dk_at dksX1_list_8 9 rfl rfl)
theorem dX1_list_176 : decode cX1_list 176 = .ok (.i2l, 1) := dk_133 (dk_at dksX1_list_8 12 rfl rfl)
theorem dX1_list_177 : decode cX1_list 177 = .ok (.lreturn, 1) := dk_173 (dk_at dksX1_list_8 13 rfl rfl)
theorem dX1_list_178 : decode cX1_list 178 = .ok (.aload 5, 2) := dk_25 5 (dk_at dksX1_list_8 14 rfl rfl)
theorem dX1_list_180 : decode cX1_list 180 = .ok (.aload 6, 2) := dk_25 6 (dk_at dksX1_list_8 16 rfl rfl)
theorem dX1_list_182 : decode cX1_list 182 = .ok (.invokestatic 329, 3) := dk_184 1 73 (dk_at dksX1_list_8 18 rfl rfl)
theorem dX1_list_185 : decode cX1_list 185 = .ok (.i2l, 1) := dk_133 (dk_at dksX1_list_8 21 rfl rfl)
theorem dX1_list_186 : decode cX1_list 186 = .ok (.lreturn, 1) := dk_173 (dk_at dksX1_list_8 22 rfl rfl)
theorem dX1_list_187 : decode cX1_list 187 = .ok (.aload_n 0, 1) := dk_42 (dk_at dksX1_list_8 23 rfl rfl)
theorem dX1_list_188 : decode cX1_list 188 = .ok (.getfield 65, 3) := dk_180 0 65 (dk_at dksX1_list_9 0 rfl rfl)
theorem dX1_list_191 : decode cX1_list 191 = .ok (.aload 5, 2) := dk_25 5 (dk_at dksX1_list_9 3 rfl rfl)
theorem dX1_list_193 : decode cX1_list 193 = .ok (.aload 6, 2) := dk_25 6 (dk_at dksX1_list_9 5 rfl rfl)
theorem dX1_list_195 : decode cX1_list 195 = .ok (.iload_n 2, 1) := dk_28 (dk_at dksX1_list_9 7 rfl rfl)
theorem dX1_list_196 : decode cX1_list 196 = .ok (.bipush 10, 2) := dk_16 10 (dk_at dksX1_list_9 8 rfl rfl)
theorem dX1_list_198 : decode cX1_list 198 = .ok (.if_icmp .ne 7, 3) := dk_160 0 7 (dk_at dksX1_list_9 10 rfl rfl)
theorem dX1_list_201 : decode cX1_list 201 = .ok (.iconst 1, 1) := dk_4 (dk_at dksX1_list_9 13 rfl rfl)
theorem dX1_list_202 : decode cX1_list 202 = .ok (.goto 4, 3) := dk_167 0 4 (dk_at dksX1_list_9 14 rfl rfl)
theorem dX1_list_205 : decode cX1_list 205 = .ok (.iconst 0, 1) := dk_3 (dk_at dksX1_list_9 17 rfl rfl)
theorem dX1_list_206 : decode cX1_list 206 = .ok (.invokevirtual 333, 3) := dk_182 1 77 (dk_at dksX1_list_9 18 rfl rfl)
theorem dX1_list_209 : decode cX1_list 209 = .ok (.i2l, 1) := dk_133 (dk_at dksX1_list_9 21 rfl rfl)
theorem dX1_list_210 : decode cX1_list 210 = .ok (.lreturn, 1) := dk_173 (dk_at dksX1_list_9 22 rfl rfl)
abbrev cX1_both : ByteArray := prog_1_method_18_code
def yX1_both : MethodName := ⟨RX1, "both", "(II)V"⟩
def dkwX1_both_1 : List UInt8 := [177]
abbrev dktX1_both_1 : List UInt8 := dkwX1_both_1 ++ []
def dkwX1_both_0 : List UInt8 := [42, 27, 182, 0, 155, 198, 0, 15, 42, 28, 182, 0, 155, 198, 0, 7, 4, 167, 0, 4, 3, 184, 0, 152]
abbrev dktX1_both_0 : List UInt8 := dkwX1_both_0 ++ dktX1_both_1
theorem dksX1_both_0 : cX1_both.data.toList.drop 0 = dktX1_both_0 := by decide +kernel
theorem dksX1_both_1 : cX1_both.data.toList.drop 24 = dktX1_both_1 := dk_seg dksX1_both_0 24 rfl rfl
theorem dX1_both_0 : decode cX1_both 0 = .ok (.aload_n 0, 1) := dk_42 (dk_at dksX1_both_0 0 rfl rfl)
theorem dX1_both_1 : decode cX1_both 1 = .ok (.iload_n 1, 1) := dk_27 (dk_at dksX1_both_0 1 rfl rfl)
theorem dX1_both_2 : decode cX1_both 2 = .ok (.invokevirtual 155, 3) := dk_182 0 155 (dk_at dksX1_both_0 2 rfl rfl)
theorem dX1_both_5 : decode cX1_both 5 = .ok (.ifnull 15, 3) := dk_198 0 15 (dk_at dksX1_both_0 5 rfl rfl)
theorem dX1_both_8 : decode cX1_both 8 = .ok (.aload_n 0, 1) := dk_42 (dk_at dksX1_both_0 8 rfl rfl)
theorem dX1_both_9 : decode cX1_both 9 = .ok (.iload_n 2, 1) := dk_28 (dk_at dksX1_both_0 9 rfl rfl)
theorem dX1_both_10 : decode cX1_both 10 = .ok (.invokevirtual 155, 3) := dk_182 0 155 (dk_at dksX1_both_0 10 rfl rfl)
theorem dX1_both_13 : decode cX1_both 13 = .ok (.ifnull 7, 3) := dk_198 0 7 (dk_at dksX1_both_0 13 rfl rfl)
theorem dX1_both_16 : decode cX1_both 16 = .ok (.iconst 1, 1) := dk_4 (dk_at dksX1_both_0 16 rfl rfl)
theorem dX1_both_17 : decode cX1_both 17 = .ok (.goto 4, 3) := dk_167 0 4 (dk_at dksX1_both_0 17 rfl rfl)
theorem dX1_both_20 : decode cX1_both 20 = .ok (.iconst 0, 1) := dk_3 (dk_at dksX1_both_0 20 rfl rfl)
theorem dX1_both_21 : decode cX1_both 21 = .ok (.invokestatic 152, 3) := dk_184 0 152 (dk_at dksX1_both_0 21 rfl rfl)
theorem dX1_both_24 : decode cX1_both 24 = .ok (.return_, 1) := dk_177 (dk_at dksX1_both_1 0 rfl rfl)
abbrev cX1_places : ByteArray := prog_1_method_19_code
def yX1_places : MethodName := ⟨RX1, "places", "(I)LLibraryDesk$Places;"⟩
def dkwX1_places_0 : List UInt8 := [42, 27, 182, 0, 155, 77, 44, 193, 0, 159, 184, 0, 161, 44, 192, 0, 159, 176]
abbrev dktX1_places_0 : List UInt8 := dkwX1_places_0 ++ []
theorem dksX1_places_0 : cX1_places.data.toList.drop 0 = dktX1_places_0 := by decide +kernel
theorem dX1_places_0 : decode cX1_places 0 = .ok (.aload_n 0, 1) := dk_42 (dk_at dksX1_places_0 0 rfl rfl)
theorem dX1_places_1 : decode cX1_places 1 = .ok (.iload_n 1, 1) := dk_27 (dk_at dksX1_places_0 1 rfl rfl)
theorem dX1_places_2 : decode cX1_places 2 = .ok (.invokevirtual 155, 3) := dk_182 0 155 (dk_at dksX1_places_0 2 rfl rfl)
theorem dX1_places_5 : decode cX1_places 5 = .ok (.astore_n 2, 1) := dk_77 (dk_at dksX1_places_0 5 rfl rfl)
theorem dX1_places_6 : decode cX1_places 6 = .ok (.aload_n 2, 1) := dk_44 (dk_at dksX1_places_0 6 rfl rfl)
theorem dX1_places_7 : decode cX1_places 7 = .ok (.instanceof 159, 3) := dk_193 0 159 (dk_at dksX1_places_0 7 rfl rfl)
theorem dX1_places_10 : decode cX1_places 10 = .ok (.invokestatic 161, 3) := dk_184 0 161 (dk_at dksX1_places_0 10 rfl rfl)
theorem dX1_places_13 : decode cX1_places 13 = .ok (.aload_n 2, 1) := dk_44 (dk_at dksX1_places_0 13 rfl rfl)
theorem dX1_places_14 : decode cX1_places 14 = .ok (.checkcast 159, 3) := dk_192 0 159 (dk_at dksX1_places_0 14 rfl rfl)
theorem dX1_places_17 : decode cX1_places 17 = .ok (.areturn, 1) := dk_176 (dk_at dksX1_places_0 17 rfl rfl)
abbrev cX1_fits : ByteArray := prog_1_method_3_code
def yX1_fits : MethodName := ⟨RX1, "fits", "(Z)V"⟩
def dkwX1_fits_0 : List UInt8 := [26, 154, 0, 11, 187, 0, 10, 89, 183, 0, 12, 191, 177]
abbrev dktX1_fits_0 : List UInt8 := dkwX1_fits_0 ++ []
theorem dksX1_fits_0 : cX1_fits.data.toList.drop 0 = dktX1_fits_0 := by decide +kernel
theorem dX1_fits_0 : decode cX1_fits 0 = .ok (.iload_n 0, 1) := dk_26 (dk_at dksX1_fits_0 0 rfl rfl)
theorem dX1_fits_1 : decode cX1_fits 1 = .ok (.ifCond .ne 11, 3) := dk_154 0 11 (dk_at dksX1_fits_0 1 rfl rfl)
theorem dX1_fits_4 : decode cX1_fits 4 = .ok (.new 10, 3) := dk_187 0 10 (dk_at dksX1_fits_0 4 rfl rfl)
theorem dX1_fits_7 : decode cX1_fits 7 = .ok (.dup, 1) := dk_89 (dk_at dksX1_fits_0 7 rfl rfl)
theorem dX1_fits_8 : decode cX1_fits 8 = .ok (.invokespecial 12, 3) := dk_183 0 12 (dk_at dksX1_fits_0 8 rfl rfl)
theorem dX1_fits_11 : decode cX1_fits 11 = .ok (.athrow, 1) := dk_191 (dk_at dksX1_fits_0 11 rfl rfl)
theorem dX1_fits_12 : decode cX1_fits 12 = .ok (.return_, 1) := dk_177 (dk_at dksX1_fits_0 12 rfl rfl)
abbrev cX1_mod : ByteArray := prog_1_method_8_code
def yX1_mod : MethodName := ⟨RX1, "mod", "(II)I"⟩
def dkwX1_mod_0 : List UInt8 := [26, 27, 112, 61, 28, 156, 0, 9, 28, 27, 96, 167, 0, 4, 28, 172]
abbrev dktX1_mod_0 : List UInt8 := dkwX1_mod_0 ++ []
theorem dksX1_mod_0 : cX1_mod.data.toList.drop 0 = dktX1_mod_0 := by decide +kernel
theorem dX1_mod_0 : decode cX1_mod 0 = .ok (.iload_n 0, 1) := dk_26 (dk_at dksX1_mod_0 0 rfl rfl)
theorem dX1_mod_1 : decode cX1_mod 1 = .ok (.iload_n 1, 1) := dk_27 (dk_at dksX1_mod_0 1 rfl rfl)
theorem dX1_mod_2 : decode cX1_mod 2 = .ok (.irem, 1) := dk_112 (dk_at dksX1_mod_0 2 rfl rfl)
theorem dX1_mod_3 : decode cX1_mod 3 = .ok (.istore_n 2, 1) := dk_61 (dk_at dksX1_mod_0 3 rfl rfl)
theorem dX1_mod_4 : decode cX1_mod 4 = .ok (.iload_n 2, 1) := dk_28 (dk_at dksX1_mod_0 4 rfl rfl)
theorem dX1_mod_5 : decode cX1_mod 5 = .ok (.ifCond .ge 9, 3) := dk_156 0 9 (dk_at dksX1_mod_0 5 rfl rfl)
theorem dX1_mod_8 : decode cX1_mod 8 = .ok (.iload_n 2, 1) := dk_28 (dk_at dksX1_mod_0 8 rfl rfl)
theorem dX1_mod_9 : decode cX1_mod 9 = .ok (.iload_n 1, 1) := dk_27 (dk_at dksX1_mod_0 9 rfl rfl)
theorem dX1_mod_10 : decode cX1_mod 10 = .ok (.iadd, 1) := dk_96 (dk_at dksX1_mod_0 10 rfl rfl)
theorem dX1_mod_11 : decode cX1_mod 11 = .ok (.goto 4, 3) := dk_167 0 4 (dk_at dksX1_mod_0 11 rfl rfl)
theorem dX1_mod_14 : decode cX1_mod 14 = .ok (.iload_n 2, 1) := dk_28 (dk_at dksX1_mod_0 14 rfl rfl)
theorem dX1_mod_15 : decode cX1_mod 15 = .ok (.ireturn, 1) := dk_172 (dk_at dksX1_mod_0 15 rfl rfl)
abbrev cX1_can : ByteArray := prog_1_method_5_code
def yX1_can : MethodName := ⟨RX1, "can", "(Z)V"⟩
def dkwX1_can_0 : List UInt8 := [26, 154, 0, 11, 187, 0, 16, 89, 183, 0, 18, 191, 177]
abbrev dktX1_can_0 : List UInt8 := dkwX1_can_0 ++ []
theorem dksX1_can_0 : cX1_can.data.toList.drop 0 = dktX1_can_0 := by decide +kernel
theorem dX1_can_0 : decode cX1_can 0 = .ok (.iload_n 0, 1) := dk_26 (dk_at dksX1_can_0 0 rfl rfl)
theorem dX1_can_1 : decode cX1_can 1 = .ok (.ifCond .ne 11, 3) := dk_154 0 11 (dk_at dksX1_can_0 1 rfl rfl)
theorem dX1_can_4 : decode cX1_can 4 = .ok (.new 16, 3) := dk_187 0 16 (dk_at dksX1_can_0 4 rfl rfl)
theorem dX1_can_7 : decode cX1_can 7 = .ok (.dup, 1) := dk_89 (dk_at dksX1_can_0 7 rfl rfl)
theorem dX1_can_8 : decode cX1_can 8 = .ok (.invokespecial 18, 3) := dk_183 0 18 (dk_at dksX1_can_0 8 rfl rfl)
theorem dX1_can_11 : decode cX1_can 11 = .ok (.athrow, 1) := dk_191 (dk_at dksX1_can_0 11 rfl rfl)
theorem dX1_can_12 : decode cX1_can 12 = .ok (.return_, 1) := dk_177 (dk_at dksX1_can_0 12 rfl rfl)
abbrev cX1_next : ByteArray := prog_1_method_9_code
def yX1_next : MethodName := ⟨RX1, "next", "(I)I"⟩
def dkwX1_next_0 : List UInt8 := [26, 18, 25, 104, 17, 48, 57, 96, 172]
abbrev dktX1_next_0 : List UInt8 := dkwX1_next_0 ++ []
theorem dksX1_next_0 : cX1_next.data.toList.drop 0 = dktX1_next_0 := by decide +kernel
theorem dX1_next_0 : decode cX1_next 0 = .ok (.iload_n 0, 1) := dk_26 (dk_at dksX1_next_0 0 rfl rfl)
theorem dX1_next_1 : decode cX1_next 1 = .ok (.ldc 25, 2) := dk_18 25 (dk_at dksX1_next_0 1 rfl rfl)
theorem dX1_next_3 : decode cX1_next 3 = .ok (.imul, 1) := dk_104 (dk_at dksX1_next_0 3 rfl rfl)
theorem dX1_next_4 : decode cX1_next 4 = .ok (.sipush 12345, 3) := dk_17 48 57 (dk_at dksX1_next_0 4 rfl rfl)
theorem dX1_next_7 : decode cX1_next 7 = .ok (.iadd, 1) := dk_96 (dk_at dksX1_next_0 7 rfl rfl)
theorem dX1_next_8 : decode cX1_next 8 = .ok (.ireturn, 1) := dk_172 (dk_at dksX1_next_0 8 rfl rfl)
abbrev cX1_draw : ByteArray := prog_1_method_10_code
def yX1_draw : MethodName := ⟨RX1, "draw", "(II)I"⟩
def dkwX1_draw_0 : List UInt8 := [26, 16, 8, 124, 27, 112, 172]
abbrev dktX1_draw_0 : List UInt8 := dkwX1_draw_0 ++ []
theorem dksX1_draw_0 : cX1_draw.data.toList.drop 0 = dktX1_draw_0 := by decide +kernel
theorem dX1_draw_0 : decode cX1_draw 0 = .ok (.iload_n 0, 1) := dk_26 (dk_at dksX1_draw_0 0 rfl rfl)
theorem dX1_draw_1 : decode cX1_draw 1 = .ok (.bipush 8, 2) := dk_16 8 (dk_at dksX1_draw_0 1 rfl rfl)
theorem dX1_draw_3 : decode cX1_draw 3 = .ok (.iushr, 1) := dk_124 (dk_at dksX1_draw_0 3 rfl rfl)
theorem dX1_draw_4 : decode cX1_draw 4 = .ok (.iload_n 1, 1) := dk_27 (dk_at dksX1_draw_0 4 rfl rfl)
theorem dX1_draw_5 : decode cX1_draw 5 = .ok (.irem, 1) := dk_112 (dk_at dksX1_draw_0 5 rfl rfl)
theorem dX1_draw_6 : decode cX1_draw 6 = .ok (.ireturn, 1) := dk_172 (dk_at dksX1_draw_0 6 rfl rfl)
abbrev cX1_ring : ByteArray := prog_1_method_34_code
def yX1_ring : MethodName := ⟨RX1, "ring", "(III)J"⟩
def dkwX1_ring_1 : List UInt8 := [167, 0, 4, 3, 184, 0, 146, 25, 4, 28, 29, 182, 1, 81, 173]
abbrev dktX1_ring_1 : List UInt8 := dkwX1_ring_1 ++ []
def dkwX1_ring_0 : List UInt8 := [42, 27, 4, 182, 0, 170, 192, 0, 182, 58, 4, 28, 155, 0, 13, 28, 16, 14, 163, 0, 7, 4]
abbrev dktX1_ring_0 : List UInt8 := dkwX1_ring_0 ++ dktX1_ring_1
theorem dksX1_ring_0 : cX1_ring.data.toList.drop 0 = dktX1_ring_0 := by decide +kernel
theorem dksX1_ring_1 : cX1_ring.data.toList.drop 22 = dktX1_ring_1 := dk_seg dksX1_ring_0 22 rfl rfl
theorem dX1_ring_0 : decode cX1_ring 0 = .ok (.aload_n 0, 1) := dk_42 (dk_at dksX1_ring_0 0 rfl rfl)
theorem dX1_ring_1 : decode cX1_ring 1 = .ok (.iload_n 1, 1) := dk_27 (dk_at dksX1_ring_0 1 rfl rfl)
theorem dX1_ring_2 : decode cX1_ring 2 = .ok (.iconst 1, 1) := dk_4 (dk_at dksX1_ring_0 2 rfl rfl)
theorem dX1_ring_3 : decode cX1_ring 3 = .ok (.invokevirtual 170, 3) := dk_182 0 170 (dk_at dksX1_ring_0 3 rfl rfl)
theorem dX1_ring_6 : decode cX1_ring 6 = .ok (.checkcast 182, 3) := dk_192 0 182 (dk_at dksX1_ring_0 6 rfl rfl)
theorem dX1_ring_9 : decode cX1_ring 9 = .ok (.astore 4, 2) := dk_58 4 (dk_at dksX1_ring_0 9 rfl rfl)
theorem dX1_ring_11 : decode cX1_ring 11 = .ok (.iload_n 2, 1) := dk_28 (dk_at dksX1_ring_0 11 rfl rfl)
theorem dX1_ring_12 : decode cX1_ring 12 = .ok (.ifCond .lt 13, 3) := dk_155 0 13 (dk_at dksX1_ring_0 12 rfl rfl)
theorem dX1_ring_15 : decode cX1_ring 15 = .ok (.iload_n 2, 1) := dk_28 (dk_at dksX1_ring_0 15 rfl rfl)
theorem dX1_ring_16 : decode cX1_ring 16 = .ok (.bipush 14, 2) := dk_16 14 (dk_at dksX1_ring_0 16 rfl rfl)
theorem dX1_ring_18 : decode cX1_ring 18 = .ok (.if_icmp .gt 7, 3) := dk_163 0 7 (dk_at dksX1_ring_0 18 rfl rfl)
theorem dX1_ring_21 : decode cX1_ring 21 = .ok (.iconst 1, 1) := dk_4 (dk_at dksX1_ring_0 21 rfl rfl)
theorem dX1_ring_22 : decode cX1_ring 22 = .ok (.goto 4, 3) := dk_167 0 4 (dk_at dksX1_ring_1 0 rfl rfl)
theorem dX1_ring_25 : decode cX1_ring 25 = .ok (.iconst 0, 1) := dk_3 (dk_at dksX1_ring_1 3 rfl rfl)
theorem dX1_ring_26 : decode cX1_ring 26 = .ok (.invokestatic 146, 3) := dk_184 0 146 (dk_at dksX1_ring_1 4 rfl rfl)
theorem dX1_ring_29 : decode cX1_ring 29 = .ok (.aload 4, 2) := dk_25 4 (dk_at dksX1_ring_1 7 rfl rfl)
theorem dX1_ring_31 : decode cX1_ring 31 = .ok (.iload_n 2, 1) := dk_28 (dk_at dksX1_ring_1 9 rfl rfl)
theorem dX1_ring_32 : decode cX1_ring 32 = .ok (.iload_n 3, 1) := dk_29 (dk_at dksX1_ring_1 10 rfl rfl)
theorem dX1_ring_33 : decode cX1_ring 33 = .ok (.invokevirtual 337, 3) := dk_182 1 81 (dk_at dksX1_ring_1 11 rfl rfl)
theorem dX1_ring_36 : decode cX1_ring 36 = .ok (.lreturn, 1) := dk_173 (dk_at dksX1_ring_1 14 rfl rfl)
abbrev cX1_of : ByteArray := prog_1_method_21_code
def yX1_of : MethodName := ⟨RX1, "of", "(II)LLibraryDesk$Thing;"⟩
def dkwX1_of_0 : List UInt8 := [42, 27, 182, 0, 155, 78, 45, 182, 0, 166, 28, 160, 0, 7, 4, 167, 0, 4, 3, 184, 0, 161, 45, 176]
abbrev dktX1_of_0 : List UInt8 := dkwX1_of_0 ++ []
theorem dksX1_of_0 : cX1_of.data.toList.drop 0 = dktX1_of_0 := by decide +kernel
theorem dX1_of_0 : decode cX1_of 0 = .ok (.aload_n 0, 1) := dk_42 (dk_at dksX1_of_0 0 rfl rfl)
theorem dX1_of_1 : decode cX1_of 1 = .ok (.iload_n 1, 1) := dk_27 (dk_at dksX1_of_0 1 rfl rfl)
theorem dX1_of_2 : decode cX1_of 2 = .ok (.invokevirtual 155, 3) := dk_182 0 155 (dk_at dksX1_of_0 2 rfl rfl)
theorem dX1_of_5 : decode cX1_of 5 = .ok (.astore_n 3, 1) := dk_78 (dk_at dksX1_of_0 5 rfl rfl)
theorem dX1_of_6 : decode cX1_of 6 = .ok (.aload_n 3, 1) := dk_45 (dk_at dksX1_of_0 6 rfl rfl)
theorem dX1_of_7 : decode cX1_of 7 = .ok (.invokevirtual 166, 3) := dk_182 0 166 (dk_at dksX1_of_0 7 rfl rfl)
theorem dX1_of_10 : decode cX1_of 10 = .ok (.iload_n 2, 1) := dk_28 (dk_at dksX1_of_0 10 rfl rfl)
theorem dX1_of_11 : decode cX1_of 11 = .ok (.if_icmp .ne 7, 3) := dk_160 0 7 (dk_at dksX1_of_0 11 rfl rfl)
theorem dX1_of_14 : decode cX1_of 14 = .ok (.iconst 1, 1) := dk_4 (dk_at dksX1_of_0 14 rfl rfl)
theorem dX1_of_15 : decode cX1_of 15 = .ok (.goto 4, 3) := dk_167 0 4 (dk_at dksX1_of_0 15 rfl rfl)
theorem dX1_of_18 : decode cX1_of 18 = .ok (.iconst 0, 1) := dk_3 (dk_at dksX1_of_0 18 rfl rfl)
theorem dX1_of_19 : decode cX1_of 19 = .ok (.invokestatic 161, 3) := dk_184 0 161 (dk_at dksX1_of_0 19 rfl rfl)
theorem dX1_of_22 : decode cX1_of 22 = .ok (.aload_n 3, 1) := dk_45 (dk_at dksX1_of_0 22 rfl rfl)
theorem dX1_of_23 : decode cX1_of 23 = .ok (.areturn, 1) := dk_176 (dk_at dksX1_of_0 23 rfl rfl)
abbrev cX1_map : ByteArray := prog_1_method_36_code
def yX1_map : MethodName := ⟨RX1, "map", "(IIII)J"⟩
def dkwX1_map_13 : List UInt8 := [184, 1, 148, 173]
abbrev dktX1_map_13 : List UInt8 := dkwX1_map_13 ++ []
def dkwX1_map_12 : List UInt8 := [25, 5, 192, 0, 185, 182, 1, 139, 133, 173, 25, 5, 29, 184, 1, 142, 133, 173, 25, 5, 28, 29]
abbrev dktX1_map_12 : List UInt8 := dkwX1_map_12 ++ dktX1_map_13
def dkwX1_map_11 : List UInt8 := [182, 1, 129, 133, 173, 42, 25, 5, 25, 6, 182, 1, 132, 173, 25, 5, 192, 0, 185, 180, 1, 136, 133, 173]
abbrev dktX1_map_11 : List UInt8 := dkwX1_map_11 ++ dktX1_map_12
def dkwX1_map_10 : List UInt8 := [164, 0, 7, 4, 167, 0, 4, 3, 182, 1, 122, 173, 25, 5, 182, 1, 126, 133, 173, 25, 5, 25, 6]
abbrev dktX1_map_10 : List UInt8 := dkwX1_map_10 ++ dktX1_map_11
def dkwX1_map_9 : List UInt8 := [25, 5, 29, 182, 1, 119, 133, 173, 25, 5, 28, 5, 112, 154, 0, 7, 4, 167, 0, 4, 3, 28, 16, 11]
abbrev dktX1_map_9 : List UInt8 := dkwX1_map_9 ++ dktX1_map_10
def dkwX1_map_8 : List UInt8 := [182, 1, 96, 173, 25, 5, 29, 21, 4, 4, 3, 182, 1, 96, 173, 25, 5, 29, 21, 4, 182, 1, 116, 173]
abbrev dktX1_map_8 : List UInt8 := dkwX1_map_8 ++ dktX1_map_9
def dkwX1_map_7 : List UInt8 := [25, 5, 182, 1, 111, 54, 7, 25, 5, 182, 1, 113, 21, 7, 133, 173, 25, 5, 29, 21, 4, 3, 4]
abbrev dktX1_map_7 : List UInt8 := dkwX1_map_7 ++ dktX1_map_8
def dkwX1_map_6 : List UInt8 := [173, 25, 5, 29, 182, 1, 107, 155, 0, 7, 10, 167, 0, 4, 9, 173, 25, 5, 182, 1, 111, 133, 173]
abbrev dktX1_map_6 : List UInt8 := dkwX1_map_6 ++ dktX1_map_7
def dkwX1_map_5 : List UInt8 := [25, 5, 29, 21, 4, 4, 4, 182, 1, 96, 173, 25, 5, 29, 182, 1, 100, 173, 25, 5, 29, 182, 1, 104]
abbrev dktX1_map_5 : List UInt8 := dkwX1_map_5 ++ dktX1_map_6
def dkwX1_map_4 : List UInt8 := [170, 0, 0, 1, 36, 0, 0, 0, 0, 0, 0, 0, 23, 0, 0, 0, 109, 0, 0, 0, 120, 0, 0, 0, 127, 0, 0, 0, 134, 0, 0, 0, 149, 0, 0, 0, 156, 0, 0, 0, 172, 0, 0, 0, 183, 0, 0, 0, 194, 0, 0, 0, 203, 0, 0, 0, 211, 0, 0, 0, 211, 0, 0, 0, 211, 0, 0, 0, 211, 0, 0, 1, 36, 0, 0, 1, 36, 0, 0, 1, 36, 0, 0, 1, 36, 0, 0, 0, 239, 0, 0, 0, 246, 0, 0, 0, 255, 0, 0, 1, 8, 0, 0, 1, 18, 0, 0, 1, 28]
abbrev dktX1_map_4 : List UInt8 := dkwX1_map_4 ++ dktX1_map_5
def dkwX1_map_3 : List UInt8 := [4, 167, 0, 4, 3, 184, 0, 146, 25, 5, 28, 184, 1, 92, 28]
abbrev dktX1_map_3 : List UInt8 := dkwX1_map_3 ++ dktX1_map_4
def dkwX1_map_2 : List UInt8 := [58, 6, 28, 155, 0, 25, 28, 16, 23, 163, 0, 19, 28, 16, 20, 160, 0, 9, 27, 21, 4, 159, 0, 7]
abbrev dktX1_map_2 : List UInt8 := dkwX1_map_2 ++ dktX1_map_3
def dkwX1_map_1 : List UInt8 := [58, 5, 28, 16, 19, 159, 0, 9, 28, 16, 20, 160, 0, 12, 42, 21, 4, 182, 1, 88, 167, 0, 4, 1]
abbrev dktX1_map_1 : List UInt8 := dkwX1_map_1 ++ dktX1_map_2
def dkwX1_map_0 : List UInt8 := [28, 16, 19, 159, 0, 9, 28, 16, 20, 160, 0, 10, 42, 27, 21, 4, 182, 1, 55, 42, 27, 182, 1, 88]
abbrev dktX1_map_0 : List UInt8 := dkwX1_map_0 ++ dktX1_map_1
theorem dksX1_map_0 : cX1_map.data.toList.drop 0 = dktX1_map_0 := by decide +kernel
theorem dksX1_map_1 : cX1_map.data.toList.drop 24 = dktX1_map_1 := dk_seg dksX1_map_0 24 rfl rfl
theorem dksX1_map_2 : cX1_map.data.toList.drop 48 = dktX1_map_2 := dk_seg dksX1_map_1 24 rfl rfl
theorem dksX1_map_3 : cX1_map.data.toList.drop 72 = dktX1_map_3 := dk_seg dksX1_map_2 24 rfl rfl
theorem dksX1_map_4 : cX1_map.data.toList.drop 87 = dktX1_map_4 := dk_seg dksX1_map_3 15 rfl rfl
theorem dksX1_map_5 : cX1_map.data.toList.drop 196 = dktX1_map_5 := dk_seg dksX1_map_4 109 rfl rfl
theorem dksX1_map_6 : cX1_map.data.toList.drop 220 = dktX1_map_6 := dk_seg dksX1_map_5 24 rfl rfl
theorem dksX1_map_7 : cX1_map.data.toList.drop 243 = dktX1_map_7 := dk_seg dksX1_map_6 23 rfl rfl
theorem dksX1_map_8 : cX1_map.data.toList.drop 266 = dktX1_map_8 := dk_seg dksX1_map_7 23 rfl rfl
theorem dksX1_map_9 : cX1_map.data.toList.drop 290 = dktX1_map_9 := dk_seg dksX1_map_8 24 rfl rfl
theorem dksX1_map_10 : cX1_map.data.toList.drop 314 = dktX1_map_10 := dk_seg dksX1_map_9 24 rfl rfl
theorem dksX1_map_11 : cX1_map.data.toList.drop 337 = dktX1_map_11 := dk_seg dksX1_map_10 23 rfl rfl
theorem dksX1_map_12 : cX1_map.data.toList.drop 361 = dktX1_map_12 := dk_seg dksX1_map_11 24 rfl rfl
theorem dksX1_map_13 : cX1_map.data.toList.drop 383 = dktX1_map_13 := dk_seg dksX1_map_12 22 rfl rfl
theorem dX1_map_0 : decode cX1_map 0 = .ok (.iload_n 2, 1) := dk_28 (dk_at dksX1_map_0 0 rfl rfl)
theorem dX1_map_1 : decode cX1_map 1 = .ok (.bipush 19, 2) := dk_16 19 (dk_at dksX1_map_0 1 rfl rfl)
theorem dX1_map_3 : decode cX1_map 3 = .ok (.if_icmp .eq 9, 3) := dk_159 0 9 (dk_at dksX1_map_0 3 rfl rfl)
theorem dX1_map_6 : decode cX1_map 6 = .ok (.iload_n 2, 1) := dk_28 (dk_at dksX1_map_0 6 rfl rfl)
theorem dX1_map_7 : decode cX1_map 7 = .ok (.bipush 20, 2) := dk_16 20 (dk_at dksX1_map_0 7 rfl rfl)
theorem dX1_map_9 : decode cX1_map 9 = .ok (.if_icmp .ne 10, 3) := dk_160 0 10 (dk_at dksX1_map_0 9 rfl rfl)
theorem dX1_map_12 : decode cX1_map 12 = .ok (.aload_n 0, 1) := dk_42 (dk_at dksX1_map_0 12 rfl rfl)
theorem dX1_map_13 : decode cX1_map 13 = .ok (.iload_n 1, 1) := dk_27 (dk_at dksX1_map_0 13 rfl rfl)
theorem dX1_map_14 : decode cX1_map 14 = .ok (.iload 4, 2) := dk_21 4 (dk_at dksX1_map_0 14 rfl rfl)
theorem dX1_map_16 : decode cX1_map 16 = .ok (.invokevirtual 311, 3) := dk_182 1 55 (dk_at dksX1_map_0 16 rfl rfl)
theorem dX1_map_19 : decode cX1_map 19 = .ok (.aload_n 0, 1) := dk_42 (dk_at dksX1_map_0 19 rfl rfl)
theorem dX1_map_20 : decode cX1_map 20 = .ok (.iload_n 1, 1) := dk_27 (dk_at dksX1_map_0 20 rfl rfl)
theorem dX1_map_21 : decode cX1_map 21 = .ok (.invokevirtual 344, 3) := dk_182 1 88 (dk_at dksX1_map_0 21 rfl rfl)
theorem dX1_map_24 : decode cX1_map 24 = .ok (.astore 5, 2) := dk_58 5 (dk_at dksX1_map_1 0 rfl rfl)
theorem dX1_map_26 : decode cX1_map 26 = .ok (.iload_n 2, 1) := dk_28 (dk_at dksX1_map_1 2 rfl rfl)
theorem dX1_map_27 : decode cX1_map 27 = .ok (.bipush 19, 2) := dk_16 19 (dk_at dksX1_map_1 3 rfl rfl)
theorem dX1_map_29 : decode cX1_map 29 = .ok (.if_icmp .eq 9, 3) := dk_159 0 9 (dk_at dksX1_map_1 5 rfl rfl)
theorem dX1_map_32 : decode cX1_map 32 = .ok (.iload_n 2, 1) := dk_28 (dk_at dksX1_map_1 8 rfl rfl)
theorem dX1_map_33 : decode cX1_map 33 = .ok (.bipush 20, 2) := dk_16 20 (dk_at dksX1_map_1 9 rfl rfl)
theorem dX1_map_35 : decode cX1_map 35 = .ok (.if_icmp .ne 12, 3) := dk_160 0 12 (dk_at dksX1_map_1 11 rfl rfl)
theorem dX1_map_38 : decode cX1_map 38 = .ok (.aload_n 0, 1) := dk_42 (dk_at dksX1_map_1 14 rfl rfl)
theorem dX1_map_39 : decode cX1_map 39 = .ok (.iload 4, 2) := dk_21 4 (dk_at dksX1_map_1 15 rfl rfl)
theorem dX1_map_41 : decode cX1_map 41 = .ok (.invokevirtual 344, 3) := dk_182 1 88 (dk_at dksX1_map_1 17 rfl rfl)
theorem dX1_map_44 : decode cX1_map 44 = .ok (.goto 4, 3) := dk_167 0 4 (dk_at dksX1_map_1 20 rfl rfl)
theorem dX1_map_47 : decode cX1_map 47 = .ok (.aconst_null, 1) := dk_1 (dk_at dksX1_map_1 23 rfl rfl)
theorem dX1_map_48 : decode cX1_map 48 = .ok (.astore 6, 2) := dk_58 6 (dk_at dksX1_map_2 0 rfl rfl)
theorem dX1_map_50 : decode cX1_map 50 = .ok (.iload_n 2, 1) := dk_28 (dk_at dksX1_map_2 2 rfl rfl)
theorem dX1_map_51 : decode cX1_map 51 = .ok (.ifCond .lt 25, 3) := dk_155 0 25 (dk_at dksX1_map_2 3 rfl rfl)
theorem dX1_map_54 : decode cX1_map 54 = .ok (.iload_n 2, 1) := dk_28 (dk_at dksX1_map_2 6 rfl rfl)
theorem dX1_map_55 : decode cX1_map 55 = .ok (.bipush 23, 2) := dk_16 23 (dk_at dksX1_map_2 7 rfl rfl)
theorem dX1_map_57 : decode cX1_map 57 = .ok (.if_icmp .gt 19, 3) := dk_163 0 19 (dk_at dksX1_map_2 9 rfl rfl)
theorem dX1_map_60 : decode cX1_map 60 = .ok (.iload_n 2, 1) := dk_28 (dk_at dksX1_map_2 12 rfl rfl)
theorem dX1_map_61 : decode cX1_map 61 = .ok (.bipush 20, 2) := dk_16 20 (dk_at dksX1_map_2 13 rfl rfl)
theorem dX1_map_63 : decode cX1_map 63 = .ok (.if_icmp .ne 9, 3) := dk_160 0 9 (dk_at dksX1_map_2 15 rfl rfl)
theorem dX1_map_66 : decode cX1_map 66 = .ok (.iload_n 1, 1) := dk_27 (dk_at dksX1_map_2 18 rfl rfl)
theorem dX1_map_67 : decode cX1_map 67 = .ok (.iload 4, 2) := dk_21 4 (dk_at dksX1_map_2 19 rfl rfl)
theorem dX1_map_69 : decode cX1_map 69 = .ok (.if_icmp .eq 7, 3) := dk_159 0 7 (dk_at dksX1_map_2 21 rfl rfl)
theorem dX1_map_72 : decode cX1_map 72 = .ok (.iconst 1, 1) := dk_4 (dk_at dksX1_map_3 0 rfl rfl)
theorem dX1_map_73 : decode cX1_map 73 = .ok (.goto 4, 3) := dk_167 0 4 (dk_at dksX1_map_3 1 rfl rfl)
theorem dX1_map_76 : decode cX1_map 76 = .ok (.iconst 0, 1) := dk_3 (dk_at dksX1_map_3 4 rfl rfl)
theorem dX1_map_77 : decode cX1_map 77 = .ok (.invokestatic 146, 3) := dk_184 0 146 (dk_at dksX1_map_3 5 rfl rfl)
theorem dX1_map_80 : decode cX1_map 80 = .ok (.aload 5, 2) := dk_25 5 (dk_at dksX1_map_3 8 rfl rfl)
theorem dX1_map_82 : decode cX1_map 82 = .ok (.iload_n 2, 1) := dk_28 (dk_at dksX1_map_3 10 rfl rfl)
theorem dX1_map_83 : decode cX1_map 83 = .ok (.invokestatic 348, 3) := dk_184 1 92 (dk_at dksX1_map_3 11 rfl rfl)
theorem dX1_map_86 : decode cX1_map 86 = .ok (.iload_n 2, 1) := dk_28 (dk_at dksX1_map_3 14 rfl rfl)
theorem dX1_map_87 : decode cX1_map 87 = .ok (.tableswitch 292 0 23 #[109, 120, 127, 134, 149, 156, 172, 183, 194, 203, 211, 211, 211, 211, 292, 292, 292, 292, 239, 246, 255, 264, 274, 284], 109) := by decide +kernel
theorem dX1_map_196 : decode cX1_map 196 = .ok (.aload 5, 2) := dk_25 5 (dk_at dksX1_map_5 0 rfl rfl)
theorem dX1_map_198 : decode cX1_map 198 = .ok (.iload_n 3, 1) := dk_29 (dk_at dksX1_map_5 2 rfl rfl)
theorem dX1_map_199 : decode cX1_map 199 = .ok (.iload 4, 2) := dk_21 4 (dk_at dksX1_map_5 3 rfl rfl)
theorem dX1_map_201 : decode cX1_map 201 = .ok (.iconst 1, 1) := dk_4 (dk_at dksX1_map_5 5 rfl rfl)
theorem dX1_map_202 : decode cX1_map 202 = .ok (.iconst 1, 1) := dk_4 (dk_at dksX1_map_5 6 rfl rfl)
theorem dX1_map_203 : decode cX1_map 203 = .ok (.invokevirtual 352, 3) := dk_182 1 96 (dk_at dksX1_map_5 7 rfl rfl)
theorem dX1_map_206 : decode cX1_map 206 = .ok (.lreturn, 1) := dk_173 (dk_at dksX1_map_5 10 rfl rfl)
theorem dX1_map_207 : decode cX1_map 207 = .ok (.aload 5, 2) := dk_25 5 (dk_at dksX1_map_5 11 rfl rfl)
theorem dX1_map_209 : decode cX1_map 209 = .ok (.iload_n 3, 1) := dk_29 (dk_at dksX1_map_5 13 rfl rfl)
theorem dX1_map_210 : decode cX1_map 210 = .ok (.invokevirtual 356, 3) := dk_182 1 100 (dk_at dksX1_map_5 14 rfl rfl)
theorem dX1_map_213 : decode cX1_map 213 = .ok (.lreturn, 1) := dk_173 (dk_at dksX1_map_5 17 rfl rfl)
theorem dX1_map_214 : decode cX1_map 214 = .ok (.aload 5, 2) := dk_25 5 (dk_at dksX1_map_5 18 rfl rfl)
theorem dX1_map_216 : decode cX1_map 216 = .ok (.iload_n 3, 1) := dk_29 (dk_at dksX1_map_5 20 rfl rfl)
theorem dX1_map_217 : decode cX1_map 217 = .ok (.invokevirtual 360, 3) := dk_182 1 104 (dk_at dksX1_map_5 21 rfl rfl)
theorem dX1_map_220 : decode cX1_map 220 = .ok (.lreturn, 1) := dk_173 (dk_at dksX1_map_6 0 rfl rfl)
theorem dX1_map_221 : decode cX1_map 221 = .ok (.aload 5, 2) := dk_25 5 (dk_at dksX1_map_6 1 rfl rfl)
theorem dX1_map_223 : decode cX1_map 223 = .ok (.iload_n 3, 1) := dk_29 (dk_at dksX1_map_6 3 rfl rfl)
theorem dX1_map_224 : decode cX1_map 224 = .ok (.invokevirtual 363, 3) := dk_182 1 107 (dk_at dksX1_map_6 4 rfl rfl)
theorem dX1_map_227 : decode cX1_map 227 = .ok (.ifCond .lt 7, 3) := dk_155 0 7 (dk_at dksX1_map_6 7 rfl rfl)
theorem dX1_map_230 : decode cX1_map 230 = .ok (.lconst 1, 1) := dk_10 (dk_at dksX1_map_6 10 rfl rfl)
theorem dX1_map_231 : decode cX1_map 231 = .ok (.goto 4, 3) := dk_167 0 4 (dk_at dksX1_map_6 11 rfl rfl)
theorem dX1_map_234 : decode cX1_map 234 = .ok (.lconst 0, 1) := dk_9 (dk_at dksX1_map_6 14 rfl rfl)
theorem dX1_map_235 : decode cX1_map 235 = .ok (.lreturn, 1) := dk_173 (dk_at dksX1_map_6 15 rfl rfl)
theorem dX1_map_236 : decode cX1_map 236 = .ok (.aload 5, 2) := dk_25 5 (dk_at dksX1_map_6 16 rfl rfl)
theorem dX1_map_238 : decode cX1_map 238 = .ok (.invokevirtual 367, 3) := dk_182 1 111 (dk_at dksX1_map_6 18 rfl rfl)
theorem dX1_map_241 : decode cX1_map 241 = .ok (.i2l, 1) := dk_133 (dk_at dksX1_map_6 21 rfl rfl)
theorem dX1_map_242 : decode cX1_map 242 = .ok (.lreturn, 1) := dk_173 (dk_at dksX1_map_6 22 rfl rfl)
theorem dX1_map_243 : decode cX1_map 243 = .ok (.aload 5, 2) := dk_25 5 (dk_at dksX1_map_7 0 rfl rfl)
theorem dX1_map_245 : decode cX1_map 245 = .ok (.invokevirtual 367, 3) := dk_182 1 111 (dk_at dksX1_map_7 2 rfl rfl)
theorem dX1_map_248 : decode cX1_map 248 = .ok (.istore 7, 2) := dk_54 7 (dk_at dksX1_map_7 5 rfl rfl)
theorem dX1_map_250 : decode cX1_map 250 = .ok (.aload 5, 2) := dk_25 5 (dk_at dksX1_map_7 7 rfl rfl)
theorem dX1_map_252 : decode cX1_map 252 = .ok (.invokevirtual 369, 3) := dk_182 1 113 (dk_at dksX1_map_7 9 rfl rfl)
theorem dX1_map_255 : decode cX1_map 255 = .ok (.iload 7, 2) := dk_21 7 (dk_at dksX1_map_7 12 rfl rfl)
theorem dX1_map_257 : decode cX1_map 257 = .ok (.i2l, 1) := dk_133 (dk_at dksX1_map_7 14 rfl rfl)
theorem dX1_map_258 : decode cX1_map 258 = .ok (.lreturn, 1) := dk_173 (dk_at dksX1_map_7 15 rfl rfl)
theorem dX1_map_259 : decode cX1_map 259 = .ok (.aload 5, 2) := dk_25 5 (dk_at dksX1_map_7 16 rfl rfl)
theorem dX1_map_261 : decode cX1_map 261 = .ok (.iload_n 3, 1) := dk_29 (dk_at dksX1_map_7 18 rfl rfl)
theorem dX1_map_262 : decode cX1_map 262 = .ok (.iload 4, 2) := dk_21 4 (dk_at dksX1_map_7 19 rfl rfl)
theorem dX1_map_264 : decode cX1_map 264 = .ok (.iconst 0, 1) := dk_3 (dk_at dksX1_map_7 21 rfl rfl)
theorem dX1_map_265 : decode cX1_map 265 = .ok (.iconst 1, 1) := dk_4 (dk_at dksX1_map_7 22 rfl rfl)
theorem dX1_map_266 : decode cX1_map 266 = .ok (.invokevirtual 352, 3) := dk_182 1 96 (dk_at dksX1_map_8 0 rfl rfl)
theorem dX1_map_269 : decode cX1_map 269 = .ok (.lreturn, 1) := dk_173 (dk_at dksX1_map_8 3 rfl rfl)
theorem dX1_map_270 : decode cX1_map 270 = .ok (.aload 5, 2) := dk_25 5 (dk_at dksX1_map_8 4 rfl rfl)
theorem dX1_map_272 : decode cX1_map 272 = .ok (.iload_n 3, 1) := dk_29 (dk_at dksX1_map_8 6 rfl rfl)
theorem dX1_map_273 : decode cX1_map 273 = .ok (.iload 4, 2) := dk_21 4 (dk_at dksX1_map_8 7 rfl rfl)
theorem dX1_map_275 : decode cX1_map 275 = .ok (.iconst 1, 1) := dk_4 (dk_at dksX1_map_8 9 rfl rfl)
theorem dX1_map_276 : decode cX1_map 276 = .ok (.iconst 0, 1) := dk_3 (dk_at dksX1_map_8 10 rfl rfl)
theorem dX1_map_277 : decode cX1_map 277 = .ok (.invokevirtual 352, 3) := dk_182 1 96 (dk_at dksX1_map_8 11 rfl rfl)
theorem dX1_map_280 : decode cX1_map 280 = .ok (.lreturn, 1) := dk_173 (dk_at dksX1_map_8 14 rfl rfl)
theorem dX1_map_281 : decode cX1_map 281 = .ok (.aload 5, 2) := dk_25 5 (dk_at dksX1_map_8 15 rfl rfl)
theorem dX1_map_283 : decode cX1_map 283 = .ok (.iload_n 3, 1) := dk_29 (dk_at dksX1_map_8 17 rfl rfl)
theorem dX1_map_284 : decode cX1_map 284 = .ok (.iload 4, 2) := dk_21 4 (dk_at dksX1_map_8 18 rfl rfl)
theorem dX1_map_286 : decode cX1_map 286 = .ok (.invokevirtual 372, 3) := dk_182 1 116 (dk_at dksX1_map_8 20 rfl rfl)
theorem dX1_map_289 : decode cX1_map 289 = .ok (.lreturn, 1) := dk_173 (dk_at dksX1_map_8 23 rfl rfl)
theorem dX1_map_290 : decode cX1_map 290 = .ok (.aload 5, 2) := dk_25 5 (dk_at dksX1_map_9 0 rfl rfl)
theorem dX1_map_292 : decode cX1_map 292 = .ok (.iload_n 3, 1) := dk_29 (dk_at dksX1_map_9 2 rfl rfl)
theorem dX1_map_293 : decode cX1_map 293 = .ok (.invokevirtual 375, 3) := dk_182 1 119 (dk_at dksX1_map_9 3 rfl rfl)
theorem dX1_map_296 : decode cX1_map 296 = .ok (.i2l, 1) := dk_133 (dk_at dksX1_map_9 6 rfl rfl)
theorem dX1_map_297 : decode cX1_map 297 = .ok (.lreturn, 1) := dk_173 (dk_at dksX1_map_9 7 rfl rfl)
theorem dX1_map_298 : decode cX1_map 298 = .ok (.aload 5, 2) := dk_25 5 (dk_at dksX1_map_9 8 rfl rfl)
theorem dX1_map_300 : decode cX1_map 300 = .ok (.iload_n 2, 1) := dk_28 (dk_at dksX1_map_9 10 rfl rfl)
theorem dX1_map_301 : decode cX1_map 301 = .ok (.iconst 2, 1) := dk_5 (dk_at dksX1_map_9 11 rfl rfl)
theorem dX1_map_302 : decode cX1_map 302 = .ok (.irem, 1) := dk_112 (dk_at dksX1_map_9 12 rfl rfl)
theorem dX1_map_303 : decode cX1_map 303 = .ok (.ifCond .ne 7, 3) := dk_154 0 7 (dk_at dksX1_map_9 13 rfl rfl)
theorem dX1_map_306 : decode cX1_map 306 = .ok (.iconst 1, 1) := dk_4 (dk_at dksX1_map_9 16 rfl rfl)
theorem dX1_map_307 : decode cX1_map 307 = .ok (.goto 4, 3) := dk_167 0 4 (dk_at dksX1_map_9 17 rfl rfl)
theorem dX1_map_310 : decode cX1_map 310 = .ok (.iconst 0, 1) := dk_3 (dk_at dksX1_map_9 20 rfl rfl)
theorem dX1_map_311 : decode cX1_map 311 = .ok (.iload_n 2, 1) := dk_28 (dk_at dksX1_map_9 21 rfl rfl)
theorem dX1_map_312 : decode cX1_map 312 = .ok (.bipush 11, 2) := dk_16 11 (dk_at dksX1_map_9 22 rfl rfl)
theorem dX1_map_314 : decode cX1_map 314 = .ok (.if_icmp .le 7, 3) := dk_164 0 7 (dk_at dksX1_map_10 0 rfl rfl)
theorem dX1_map_317 : decode cX1_map 317 = .ok (.iconst 1, 1) := dk_4 (dk_at dksX1_map_10 3 rfl rfl)
theorem dX1_map_318 : decode cX1_map 318 = .ok (.goto 4, 3) := dk_167 0 4 (dk_at dksX1_map_10 4 rfl rfl)
theorem dX1_map_321 : decode cX1_map 321 = .ok (.iconst 0, 1) := dk_3 (dk_at dksX1_map_10 7 rfl rfl)
theorem dX1_map_322 : decode cX1_map 322 = .ok (.invokevirtual 378, 3) := dk_182 1 122 (dk_at dksX1_map_10 8 rfl rfl)
theorem dX1_map_325 : decode cX1_map 325 = .ok (.lreturn, 1) := dk_173 (dk_at dksX1_map_10 11 rfl rfl)
theorem dX1_map_326 : decode cX1_map 326 = .ok (.aload 5, 2) := dk_25 5 (dk_at dksX1_map_10 12 rfl rfl)
theorem dX1_map_328 : decode cX1_map 328 = .ok (.invokevirtual 382, 3) := dk_182 1 126 (dk_at dksX1_map_10 14 rfl rfl)
theorem dX1_map_331 : decode cX1_map 331 = .ok (.i2l, 1) := dk_133 (dk_at dksX1_map_10 17 rfl rfl)
theorem dX1_map_332 : decode cX1_map 332 = .ok (.lreturn, 1) := dk_173 (dk_at dksX1_map_10 18 rfl rfl)
theorem dX1_map_333 : decode cX1_map 333 = .ok (.aload 5, 2) := dk_25 5 (dk_at dksX1_map_10 19 rfl rfl)
theorem dX1_map_335 : decode cX1_map 335 = .ok (.aload 6, 2) := dk_25 6 (dk_at dksX1_map_10 21 rfl rfl)
theorem dX1_map_337 : decode cX1_map 337 = .ok (.invokevirtual 385, 3) := dk_182 1 129 (dk_at dksX1_map_11 0 rfl rfl)
theorem dX1_map_340 : decode cX1_map 340 = .ok (.i2l, 1) := dk_133 (dk_at dksX1_map_11 3 rfl rfl)
theorem dX1_map_341 : decode cX1_map 341 = .ok (.lreturn, 1) := dk_173 (dk_at dksX1_map_11 4 rfl rfl)
theorem dX1_map_342 : decode cX1_map 342 = .ok (.aload_n 0, 1) := dk_42 (dk_at dksX1_map_11 5 rfl rfl)
theorem dX1_map_343 : decode cX1_map 343 = .ok (.aload 5, 2) := dk_25 5 (dk_at dksX1_map_11 6 rfl rfl)
theorem dX1_map_345 : decode cX1_map 345 = .ok (.aload 6, 2) := dk_25 6 (dk_at dksX1_map_11 8 rfl rfl)
theorem dX1_map_347 : decode cX1_map 347 = .ok (.invokevirtual 388, 3) := dk_182 1 132 (dk_at dksX1_map_11 10 rfl rfl)
theorem dX1_map_350 : decode cX1_map 350 = .ok (.lreturn, 1) := dk_173 (dk_at dksX1_map_11 13 rfl rfl)
theorem dX1_map_351 : decode cX1_map 351 = .ok (.aload 5, 2) := dk_25 5 (dk_at dksX1_map_11 14 rfl rfl)
theorem dX1_map_353 : decode cX1_map 353 = .ok (.checkcast 185, 3) := dk_192 0 185 (dk_at dksX1_map_11 16 rfl rfl)
theorem dX1_map_356 : decode cX1_map 356 = .ok (.getfield 392, 3) := dk_180 1 136 (dk_at dksX1_map_11 19 rfl rfl)
theorem dX1_map_359 : decode cX1_map 359 = .ok (.i2l, 1) := dk_133 (dk_at dksX1_map_11 22 rfl rfl)
theorem dX1_map_360 : decode cX1_map 360 = .ok (.lreturn, 1) := dk_173 (dk_at dksX1_map_11 23 rfl rfl)
theorem dX1_map_361 : decode cX1_map 361 = .ok (.aload 5, 2) := dk_25 5 (dk_at dksX1_map_12 0 rfl rfl)
theorem dX1_map_363 : decode cX1_map 363 = .ok (.checkcast 185, 3) := dk_192 0 185 (dk_at dksX1_map_12 2 rfl rfl)
theorem dX1_map_366 : decode cX1_map 366 = .ok (.invokevirtual 395, 3) := dk_182 1 139 (dk_at dksX1_map_12 5 rfl rfl)
theorem dX1_map_369 : decode cX1_map 369 = .ok (.i2l, 1) := dk_133 (dk_at dksX1_map_12 8 rfl rfl)
theorem dX1_map_370 : decode cX1_map 370 = .ok (.lreturn, 1) := dk_173 (dk_at dksX1_map_12 9 rfl rfl)
theorem dX1_map_371 : decode cX1_map 371 = .ok (.aload 5, 2) := dk_25 5 (dk_at dksX1_map_12 10 rfl rfl)
theorem dX1_map_373 : decode cX1_map 373 = .ok (.iload_n 3, 1) := dk_29 (dk_at dksX1_map_12 12 rfl rfl)
theorem dX1_map_374 : decode cX1_map 374 = .ok (.invokestatic 398, 3) := dk_184 1 142 (dk_at dksX1_map_12 13 rfl rfl)
theorem dX1_map_377 : decode cX1_map 377 = .ok (.i2l, 1) := dk_133 (dk_at dksX1_map_12 16 rfl rfl)
theorem dX1_map_378 : decode cX1_map 378 = .ok (.lreturn, 1) := dk_173 (dk_at dksX1_map_12 17 rfl rfl)
theorem dX1_map_379 : decode cX1_map 379 = .ok (.aload 5, 2) := dk_25 5 (dk_at dksX1_map_12 18 rfl rfl)
theorem dX1_map_381 : decode cX1_map 381 = .ok (.iload_n 2, 1) := dk_28 (dk_at dksX1_map_12 20 rfl rfl)
theorem dX1_map_382 : decode cX1_map 382 = .ok (.iload_n 3, 1) := dk_29 (dk_at dksX1_map_12 21 rfl rfl)
theorem dX1_map_383 : decode cX1_map 383 = .ok (.invokestatic 404, 3) := dk_184 1 148 (dk_at dksX1_map_13 0 rfl rfl)
theorem dX1_map_386 : decode cX1_map 386 = .ok (.lreturn, 1) := dk_173 (dk_at dksX1_map_13 3 rfl rfl)
abbrev cX1_maps : ByteArray := prog_1_method_20_code
def yX1_maps : MethodName := ⟨RX1, "maps", "(I)LLibraryDesk$Maps;"⟩
def dkwX1_maps_0 : List UInt8 := [42, 27, 182, 0, 155, 77, 44, 193, 0, 164, 184, 0, 161, 44, 192, 0, 164, 176]
abbrev dktX1_maps_0 : List UInt8 := dkwX1_maps_0 ++ []
theorem dksX1_maps_0 : cX1_maps.data.toList.drop 0 = dktX1_maps_0 := by decide +kernel
theorem dX1_maps_0 : decode cX1_maps 0 = .ok (.aload_n 0, 1) := dk_42 (dk_at dksX1_maps_0 0 rfl rfl)
theorem dX1_maps_1 : decode cX1_maps 1 = .ok (.iload_n 1, 1) := dk_27 (dk_at dksX1_maps_0 1 rfl rfl)
theorem dX1_maps_2 : decode cX1_maps 2 = .ok (.invokevirtual 155, 3) := dk_182 0 155 (dk_at dksX1_maps_0 2 rfl rfl)
theorem dX1_maps_5 : decode cX1_maps 5 = .ok (.astore_n 2, 1) := dk_77 (dk_at dksX1_maps_0 5 rfl rfl)
theorem dX1_maps_6 : decode cX1_maps 6 = .ok (.aload_n 2, 1) := dk_44 (dk_at dksX1_maps_0 6 rfl rfl)
theorem dX1_maps_7 : decode cX1_maps 7 = .ok (.instanceof 164, 3) := dk_193 0 164 (dk_at dksX1_maps_0 7 rfl rfl)
theorem dX1_maps_10 : decode cX1_maps 10 = .ok (.invokestatic 161, 3) := dk_184 0 161 (dk_at dksX1_maps_0 10 rfl rfl)
theorem dX1_maps_13 : decode cX1_maps 13 = .ok (.aload_n 2, 1) := dk_44 (dk_at dksX1_maps_0 13 rfl rfl)
theorem dX1_maps_14 : decode cX1_maps 14 = .ok (.checkcast 164, 3) := dk_192 0 164 (dk_at dksX1_maps_0 14 rfl rfl)
theorem dX1_maps_17 : decode cX1_maps 17 = .ok (.areturn, 1) := dk_176 (dk_at dksX1_maps_0 17 rfl rfl)
abbrev cX1_checkOp : ByteArray := prog_1_method_35_code
def yX1_checkOp : MethodName := ⟨RX1, "checkOp", "(LLibraryDesk$Maps;I)V"⟩
def dkwX1_checkOp_4 : List UInt8 := [182, 1, 84, 5, 160, 0, 7, 4, 167, 0, 4, 3, 184, 1, 85, 177]
abbrev dktX1_checkOp_4 : List UInt8 := dkwX1_checkOp_4 ++ []
def dkwX1_checkOp_3 : List UInt8 := [153, 0, 7, 4, 167, 0, 4, 3, 184, 1, 85, 27, 16, 21, 159, 0, 9, 27, 16, 22, 160, 0, 11, 42]
abbrev dktX1_checkOp_3 : List UInt8 := dkwX1_checkOp_3 ++ dktX1_checkOp_4
def dkwX1_checkOp_2 : List UInt8 := [184, 1, 85, 27, 16, 14, 161, 0, 9, 27, 16, 17, 164, 0, 9, 27, 16, 23, 160, 0, 7, 28]
abbrev dktX1_checkOp_2 : List UInt8 := dkwX1_checkOp_2 ++ dktX1_checkOp_3
def dkwX1_checkOp_1 : List UInt8 := [16, 10, 161, 0, 17, 27, 16, 13, 163, 0, 11, 42, 182, 1, 84, 5, 159, 0, 7, 4, 167, 0, 4, 3]
abbrev dktX1_checkOp_1 : List UInt8 := dkwX1_checkOp_1 ++ dktX1_checkOp_2
def dkwX1_checkOp_0 : List UInt8 := [42, 182, 1, 84, 7, 159, 0, 12, 42, 182, 1, 84, 16, 20, 160, 0, 7, 4, 167, 0, 4, 3, 61, 27]
abbrev dktX1_checkOp_0 : List UInt8 := dkwX1_checkOp_0 ++ dktX1_checkOp_1
theorem dksX1_checkOp_0 : cX1_checkOp.data.toList.drop 0 = dktX1_checkOp_0 := by decide +kernel
theorem dksX1_checkOp_1 : cX1_checkOp.data.toList.drop 24 = dktX1_checkOp_1 := dk_seg dksX1_checkOp_0 24 rfl rfl
theorem dksX1_checkOp_2 : cX1_checkOp.data.toList.drop 48 = dktX1_checkOp_2 := dk_seg dksX1_checkOp_1 24 rfl rfl
theorem dksX1_checkOp_3 : cX1_checkOp.data.toList.drop 70 = dktX1_checkOp_3 := dk_seg dksX1_checkOp_2 22 rfl rfl
theorem dksX1_checkOp_4 : cX1_checkOp.data.toList.drop 94 = dktX1_checkOp_4 := dk_seg dksX1_checkOp_3 24 rfl rfl
theorem dX1_checkOp_0 : decode cX1_checkOp 0 = .ok (.aload_n 0, 1) := dk_42 (dk_at dksX1_checkOp_0 0 rfl rfl)
theorem dX1_checkOp_1 : decode cX1_checkOp 1 = .ok (.invokevirtual 340, 3) := dk_182 1 84 (dk_at dksX1_checkOp_0 1 rfl rfl)
theorem dX1_checkOp_4 : decode cX1_checkOp 4 = .ok (.iconst 4, 1) := dk_7 (dk_at dksX1_checkOp_0 4 rfl rfl)
theorem dX1_checkOp_5 : decode cX1_checkOp 5 = .ok (.if_icmp .eq 12, 3) := dk_159 0 12 (dk_at dksX1_checkOp_0 5 rfl rfl)
theorem dX1_checkOp_8 : decode cX1_checkOp 8 = .ok (.aload_n 0, 1) := dk_42 (dk_at dksX1_checkOp_0 8 rfl rfl)
theorem dX1_checkOp_9 : decode cX1_checkOp 9 = .ok (.invokevirtual 340, 3) := dk_182 1 84 (dk_at dksX1_checkOp_0 9 rfl rfl)
theorem dX1_checkOp_12 : decode cX1_checkOp 12 = .ok (.bipush 20, 2) := dk_16 20 (dk_at dksX1_checkOp_0 12 rfl rfl)
theorem dX1_checkOp_14 : decode cX1_checkOp 14 = .ok (.if_icmp .ne 7, 3) := dk_160 0 7 (dk_at dksX1_checkOp_0 14 rfl rfl)
theorem dX1_checkOp_17 : decode cX1_checkOp 17 = .ok (.iconst 1, 1) := dk_4 (dk_at dksX1_checkOp_0 17 rfl rfl)
theorem dX1_checkOp_18 : decode cX1_checkOp 18 = .ok (.goto 4, 3) := dk_167 0 4 (dk_at dksX1_checkOp_0 18 rfl rfl)
theorem dX1_checkOp_21 : decode cX1_checkOp 21 = .ok (.iconst 0, 1) := dk_3 (dk_at dksX1_checkOp_0 21 rfl rfl)
theorem dX1_checkOp_22 : decode cX1_checkOp 22 = .ok (.istore_n 2, 1) := dk_61 (dk_at dksX1_checkOp_0 22 rfl rfl)
theorem dX1_checkOp_23 : decode cX1_checkOp 23 = .ok (.iload_n 1, 1) := dk_27 (dk_at dksX1_checkOp_0 23 rfl rfl)
theorem dX1_checkOp_24 : decode cX1_checkOp 24 = .ok (.bipush 10, 2) := dk_16 10 (dk_at dksX1_checkOp_1 0 rfl rfl)
theorem dX1_checkOp_26 : decode cX1_checkOp 26 = .ok (.if_icmp .lt 17, 3) := dk_161 0 17 (dk_at dksX1_checkOp_1 2 rfl rfl)
theorem dX1_checkOp_29 : decode cX1_checkOp 29 = .ok (.iload_n 1, 1) := dk_27 (dk_at dksX1_checkOp_1 5 rfl rfl)
theorem dX1_checkOp_30 : decode cX1_checkOp 30 = .ok (.bipush 13, 2) := dk_16 13 (dk_at dksX1_checkOp_1 6 rfl rfl)
theorem dX1_checkOp_32 : decode cX1_checkOp 32 = .ok (.if_icmp .gt 11, 3) := dk_163 0 11 (dk_at dksX1_checkOp_1 8 rfl rfl)
theorem dX1_checkOp_35 : decode cX1_checkOp 35 = .ok (.aload_n 0, 1) := dk_42 (dk_at dksX1_checkOp_1 11 rfl rfl)
theorem dX1_checkOp_36 : decode cX1_checkOp 36 = .ok (.invokevirtual 340, 3) := dk_182 1 84 (dk_at dksX1_checkOp_1 12 rfl rfl)
theorem dX1_checkOp_39 : decode cX1_checkOp 39 = .ok (.iconst 2, 1) := dk_5 (dk_at dksX1_checkOp_1 15 rfl rfl)
theorem dX1_checkOp_40 : decode cX1_checkOp 40 = .ok (.if_icmp .eq 7, 3) := dk_159 0 7 (dk_at dksX1_checkOp_1 16 rfl rfl)
theorem dX1_checkOp_43 : decode cX1_checkOp 43 = .ok (.iconst 1, 1) := dk_4 (dk_at dksX1_checkOp_1 19 rfl rfl)
theorem dX1_checkOp_44 : decode cX1_checkOp 44 = .ok (.goto 4, 3) := dk_167 0 4 (dk_at dksX1_checkOp_1 20 rfl rfl)
theorem dX1_checkOp_47 : decode cX1_checkOp 47 = .ok (.iconst 0, 1) := dk_3 (dk_at dksX1_checkOp_1 23 rfl rfl)
theorem dX1_checkOp_48 : decode cX1_checkOp 48 = .ok (.invokestatic 341, 3) := dk_184 1 85 (dk_at dksX1_checkOp_2 0 rfl rfl)
theorem dX1_checkOp_51 : decode cX1_checkOp 51 = .ok (.iload_n 1, 1) := dk_27 (dk_at dksX1_checkOp_2 3 rfl rfl)
theorem dX1_checkOp_52 : decode cX1_checkOp 52 = .ok (.bipush 14, 2) := dk_16 14 (dk_at dksX1_checkOp_2 4 rfl rfl)
theorem dX1_checkOp_54 : decode cX1_checkOp 54 = .ok (.if_icmp .lt 9, 3) := dk_161 0 9 (dk_at dksX1_checkOp_2 6 rfl rfl)
theorem dX1_checkOp_57 : decode cX1_checkOp 57 = .ok (.iload_n 1, 1) := dk_27 (dk_at dksX1_checkOp_2 9 rfl rfl)
theorem dX1_checkOp_58 : decode cX1_checkOp 58 = .ok (.bipush 17, 2) := dk_16 17 (dk_at dksX1_checkOp_2 10 rfl rfl)
theorem dX1_checkOp_60 : decode cX1_checkOp 60 = .ok (.if_icmp .le 9, 3) := dk_164 0 9 (dk_at dksX1_checkOp_2 12 rfl rfl)
theorem dX1_checkOp_63 : decode cX1_checkOp 63 = .ok (.iload_n 1, 1) := dk_27 (dk_at dksX1_checkOp_2 15 rfl rfl)
theorem dX1_checkOp_64 : decode cX1_checkOp 64 = .ok (.bipush 23, 2) := dk_16 23 (dk_at dksX1_checkOp_2 16 rfl rfl)
theorem dX1_checkOp_66 : decode cX1_checkOp 66 = .ok (.if_icmp .ne 7, 3) := dk_160 0 7 (dk_at dksX1_checkOp_2 18 rfl rfl)
theorem dX1_checkOp_69 : decode cX1_checkOp 69 = .ok (.iload_n 2, 1) := dk_28 (dk_at dksX1_checkOp_2 21 rfl rfl)
theorem dX1_checkOp_70 : decode cX1_checkOp 70 = .ok (.ifCond .eq 7, 3) := dk_153 0 7 (dk_at dksX1_checkOp_3 0 rfl rfl)
theorem dX1_checkOp_73 : decode cX1_checkOp 73 = .ok (.iconst 1, 1) := dk_4 (dk_at dksX1_checkOp_3 3 rfl rfl)
theorem dX1_checkOp_74 : decode cX1_checkOp 74 = .ok (.goto 4, 3) := dk_167 0 4 (dk_at dksX1_checkOp_3 4 rfl rfl)
theorem dX1_checkOp_77 : decode cX1_checkOp 77 = .ok (.iconst 0, 1) := dk_3 (dk_at dksX1_checkOp_3 7 rfl rfl)
theorem dX1_checkOp_78 : decode cX1_checkOp 78 = .ok (.invokestatic 341, 3) := dk_184 1 85 (dk_at dksX1_checkOp_3 8 rfl rfl)
theorem dX1_checkOp_81 : decode cX1_checkOp 81 = .ok (.iload_n 1, 1) := dk_27 (dk_at dksX1_checkOp_3 11 rfl rfl)
theorem dX1_checkOp_82 : decode cX1_checkOp 82 = .ok (.bipush 21, 2) := dk_16 21 (dk_at dksX1_checkOp_3 12 rfl rfl)
theorem dX1_checkOp_84 : decode cX1_checkOp 84 = .ok (.if_icmp .eq 9, 3) := dk_159 0 9 (dk_at dksX1_checkOp_3 14 rfl rfl)
theorem dX1_checkOp_87 : decode cX1_checkOp 87 = .ok (.iload_n 1, 1) := dk_27 (dk_at dksX1_checkOp_3 17 rfl rfl)
theorem dX1_checkOp_88 : decode cX1_checkOp 88 = .ok (.bipush 22, 2) := dk_16 22 (dk_at dksX1_checkOp_3 18 rfl rfl)
theorem dX1_checkOp_90 : decode cX1_checkOp 90 = .ok (.if_icmp .ne 11, 3) := dk_160 0 11 (dk_at dksX1_checkOp_3 20 rfl rfl)
theorem dX1_checkOp_93 : decode cX1_checkOp 93 = .ok (.aload_n 0, 1) := dk_42 (dk_at dksX1_checkOp_3 23 rfl rfl)
theorem dX1_checkOp_94 : decode cX1_checkOp 94 = .ok (.invokevirtual 340, 3) := dk_182 1 84 (dk_at dksX1_checkOp_4 0 rfl rfl)
theorem dX1_checkOp_97 : decode cX1_checkOp 97 = .ok (.iconst 2, 1) := dk_5 (dk_at dksX1_checkOp_4 3 rfl rfl)
theorem dX1_checkOp_98 : decode cX1_checkOp 98 = .ok (.if_icmp .ne 7, 3) := dk_160 0 7 (dk_at dksX1_checkOp_4 4 rfl rfl)
theorem dX1_checkOp_101 : decode cX1_checkOp 101 = .ok (.iconst 1, 1) := dk_4 (dk_at dksX1_checkOp_4 7 rfl rfl)
theorem dX1_checkOp_102 : decode cX1_checkOp 102 = .ok (.goto 4, 3) := dk_167 0 4 (dk_at dksX1_checkOp_4 8 rfl rfl)
theorem dX1_checkOp_105 : decode cX1_checkOp 105 = .ok (.iconst 0, 1) := dk_3 (dk_at dksX1_checkOp_4 11 rfl rfl)
theorem dX1_checkOp_106 : decode cX1_checkOp 106 = .ok (.invokestatic 341, 3) := dk_184 1 85 (dk_at dksX1_checkOp_4 12 rfl rfl)
theorem dX1_checkOp_109 : decode cX1_checkOp 109 = .ok (.return_, 1) := dk_177 (dk_at dksX1_checkOp_4 15 rfl rfl)
abbrev cX1_putAll : ByteArray := prog_1_method_37_code
def yX1_putAll : MethodName := ⟨RX1, "putAll", "(LLibraryDesk$Maps;LLibraryDesk$Maps;)J"⟩
def dkwX1_putAll_8 : List UInt8 := [182, 1, 96, 55, 7, 132, 6, 1, 167, 255, 225, 29, 133, 173]
abbrev dktX1_putAll_8 : List UInt8 := dkwX1_putAll_8 ++ []
def dkwX1_putAll_7 : List UInt8 := [21, 6, 29, 162, 0, 31, 43, 42, 180, 0, 129, 21, 6, 46, 42, 180, 0, 132, 21, 6, 46, 4, 4]
abbrev dktX1_putAll_7 : List UInt8 := dkwX1_putAll_7 ++ dktX1_putAll_8
def dkwX1_putAll_6 : List UInt8 := [184, 1, 173, 21, 4, 96, 17, 3, 232, 163, 0, 7, 4, 167, 0, 4, 3, 184, 0, 176, 3, 54, 6]
abbrev dktX1_putAll_6 : List UInt8 := dkwX1_putAll_6 ++ dktX1_putAll_7
def dkwX1_putAll_5 : List UInt8 := [43, 192, 0, 188, 180, 1, 170, 158, 0, 7, 4, 167, 0, 4, 3, 54, 5, 21, 5, 154, 0, 16, 43]
abbrev dktX1_putAll_5 : List UInt8 := dkwX1_putAll_5 ++ dktX1_putAll_6
def dkwX1_putAll_4 : List UInt8 := [54, 4, 132, 3, 1, 44, 21, 5, 182, 1, 167, 54, 5, 167, 255, 159, 43, 182, 1, 84, 6, 160, 0, 17]
abbrev dktX1_putAll_4 : List UInt8 := dkwX1_putAll_4 ++ dktX1_putAll_5
def dkwX1_putAll_3 : List UInt8 := [46, 182, 1, 160, 184, 0, 146, 21, 4, 42, 43, 29, 182, 1, 163, 153, 0, 7, 3, 167, 0, 4, 4, 96]
abbrev dktX1_putAll_3 : List UInt8 := dkwX1_putAll_3 ++ dktX1_putAll_4
def dkwX1_putAll_2 : List UInt8 := [182, 1, 107, 156, 0, 47, 43, 182, 1, 84, 16, 20, 160, 0, 19, 43, 192, 0, 216, 42, 180, 0, 129, 29]
abbrev dktX1_putAll_2 : List UInt8 := dkwX1_putAll_2 ++ dktX1_putAll_3
def dkwX1_putAll_1 : List UInt8 := [182, 1, 155, 79, 42, 180, 0, 132, 29, 44, 21, 5, 182, 1, 158, 79, 43, 42, 180, 0, 129, 29, 46]
abbrev dktX1_putAll_1 : List UInt8 := dkwX1_putAll_1 ++ dktX1_putAll_2
def dkwX1_putAll_0 : List UInt8 := [3, 62, 3, 54, 4, 44, 182, 1, 152, 54, 5, 21, 5, 155, 0, 98, 42, 180, 0, 129, 29, 44, 21, 5]
abbrev dktX1_putAll_0 : List UInt8 := dkwX1_putAll_0 ++ dktX1_putAll_1
theorem dksX1_putAll_0 : cX1_putAll.data.toList.drop 0 = dktX1_putAll_0 := by decide +kernel
theorem dksX1_putAll_1 : cX1_putAll.data.toList.drop 24 = dktX1_putAll_1 := dk_seg dksX1_putAll_0 24 rfl rfl
theorem dksX1_putAll_2 : cX1_putAll.data.toList.drop 47 = dktX1_putAll_2 := dk_seg dksX1_putAll_1 23 rfl rfl
theorem dksX1_putAll_3 : cX1_putAll.data.toList.drop 71 = dktX1_putAll_3 := dk_seg dksX1_putAll_2 24 rfl rfl
theorem dksX1_putAll_4 : cX1_putAll.data.toList.drop 95 = dktX1_putAll_4 := dk_seg dksX1_putAll_3 24 rfl rfl
theorem dksX1_putAll_5 : cX1_putAll.data.toList.drop 119 = dktX1_putAll_5 := dk_seg dksX1_putAll_4 24 rfl rfl
theorem dksX1_putAll_6 : cX1_putAll.data.toList.drop 142 = dktX1_putAll_6 := dk_seg dksX1_putAll_5 23 rfl rfl
theorem dksX1_putAll_7 : cX1_putAll.data.toList.drop 165 = dktX1_putAll_7 := dk_seg dksX1_putAll_6 23 rfl rfl
theorem dksX1_putAll_8 : cX1_putAll.data.toList.drop 188 = dktX1_putAll_8 := dk_seg dksX1_putAll_7 23 rfl rfl
theorem dX1_putAll_0 : decode cX1_putAll 0 = .ok (.iconst 0, 1) := dk_3 (dk_at dksX1_putAll_0 0 rfl rfl)
theorem dX1_putAll_1 : decode cX1_putAll 1 = .ok (.istore_n 3, 1) := dk_62 (dk_at dksX1_putAll_0 1 rfl rfl)
theorem dX1_putAll_2 : decode cX1_putAll 2 = .ok (.iconst 0, 1) := dk_3 (dk_at dksX1_putAll_0 2 rfl rfl)
theorem dX1_putAll_3 : decode cX1_putAll 3 = .ok (.istore 4, 2) := dk_54 4 (dk_at dksX1_putAll_0 3 rfl rfl)
theorem dX1_putAll_5 : decode cX1_putAll 5 = .ok (.aload_n 2, 1) := dk_44 (dk_at dksX1_putAll_0 5 rfl rfl)
theorem dX1_putAll_6 : decode cX1_putAll 6 = .ok (.invokevirtual 408, 3) := dk_182 1 152 (dk_at dksX1_putAll_0 6 rfl rfl)
theorem dX1_putAll_9 : decode cX1_putAll 9 = .ok (.istore 5, 2) := dk_54 5 (dk_at dksX1_putAll_0 9 rfl rfl)
theorem dX1_putAll_11 : decode cX1_putAll 11 = .ok (.iload 5, 2) := dk_21 5 (dk_at dksX1_putAll_0 11 rfl rfl)
theorem dX1_putAll_13 : decode cX1_putAll 13 = .ok (.ifCond .lt 98, 3) := dk_155 0 98 (dk_at dksX1_putAll_0 13 rfl rfl)
theorem dX1_putAll_16 : decode cX1_putAll 16 = .ok (.aload_n 0, 1) := dk_42 (dk_at dksX1_putAll_0 16 rfl rfl)
theorem dX1_putAll_17 : decode cX1_putAll 17 = .ok (.getfield 129, 3) := dk_180 0 129 (dk_at dksX1_putAll_0 17 rfl rfl)
theorem dX1_putAll_20 : decode cX1_putAll 20 = .ok (.iload_n 3, 1) := dk_29 (dk_at dksX1_putAll_0 20 rfl rfl)
theorem dX1_putAll_21 : decode cX1_putAll 21 = .ok (.aload_n 2, 1) := dk_44 (dk_at dksX1_putAll_0 21 rfl rfl)
theorem dX1_putAll_22 : decode cX1_putAll 22 = .ok (.iload 5, 2) := dk_21 5 (dk_at dksX1_putAll_0 22 rfl rfl)
theorem dX1_putAll_24 : decode cX1_putAll 24 = .ok (.invokevirtual 411, 3) := dk_182 1 155 (dk_at dksX1_putAll_1 0 rfl rfl)
theorem dX1_putAll_27 : decode cX1_putAll 27 = .ok (.iastore, 1) := dk_79 (dk_at dksX1_putAll_1 3 rfl rfl)
theorem dX1_putAll_28 : decode cX1_putAll 28 = .ok (.aload_n 0, 1) := dk_42 (dk_at dksX1_putAll_1 4 rfl rfl)
theorem dX1_putAll_29 : decode cX1_putAll 29 = .ok (.getfield 132, 3) := dk_180 0 132 (dk_at dksX1_putAll_1 5 rfl rfl)
theorem dX1_putAll_32 : decode cX1_putAll 32 = .ok (.iload_n 3, 1) := dk_29 (dk_at dksX1_putAll_1 8 rfl rfl)
theorem dX1_putAll_33 : decode cX1_putAll 33 = .ok (.aload_n 2, 1) := dk_44 (dk_at dksX1_putAll_1 9 rfl rfl)
theorem dX1_putAll_34 : decode cX1_putAll 34 = .ok (.iload 5, 2) := dk_21 5 (dk_at dksX1_putAll_1 10 rfl rfl)
theorem dX1_putAll_36 : decode cX1_putAll 36 = .ok (.invokevirtual 414, 3) := dk_182 1 158 (dk_at dksX1_putAll_1 12 rfl rfl)
theorem dX1_putAll_39 : decode cX1_putAll 39 = .ok (.iastore, 1) := dk_79 (dk_at dksX1_putAll_1 15 rfl rfl)
theorem dX1_putAll_40 : decode cX1_putAll 40 = .ok (.aload_n 1, 1) := dk_43 (dk_at dksX1_putAll_1 16 rfl rfl)
theorem dX1_putAll_41 : decode cX1_putAll 41 = .ok (.aload_n 0, 1) := dk_42 (dk_at dksX1_putAll_1 17 rfl rfl)
theorem dX1_putAll_42 : decode cX1_putAll 42 = .ok (.getfield 129, 3) := dk_180 0 129 (dk_at dksX1_putAll_1 18 rfl rfl)
theorem dX1_putAll_45 : decode cX1_putAll 45 = .ok (.iload_n 3, 1) := dk_29 (dk_at dksX1_putAll_1 21 rfl rfl)
theorem dX1_putAll_46 : decode cX1_putAll 46 = .ok (.iaload, 1) := dk_46 (dk_at dksX1_putAll_1 22 rfl rfl)
theorem dX1_putAll_47 : decode cX1_putAll 47 = .ok (.invokevirtual 363, 3) := dk_182 1 107 (dk_at dksX1_putAll_2 0 rfl rfl)
theorem dX1_putAll_50 : decode cX1_putAll 50 = .ok (.ifCond .ge 47, 3) := dk_156 0 47 (dk_at dksX1_putAll_2 3 rfl rfl)
theorem dX1_putAll_53 : decode cX1_putAll 53 = .ok (.aload_n 1, 1) := dk_43 (dk_at dksX1_putAll_2 6 rfl rfl)
theorem dX1_putAll_54 : decode cX1_putAll 54 = .ok (.invokevirtual 340, 3) := dk_182 1 84 (dk_at dksX1_putAll_2 7 rfl rfl)
theorem dX1_putAll_57 : decode cX1_putAll 57 = .ok (.bipush 20, 2) := dk_16 20 (dk_at dksX1_putAll_2 10 rfl rfl)
theorem dX1_putAll_59 : decode cX1_putAll 59 = .ok (.if_icmp .ne 19, 3) := dk_160 0 19 (dk_at dksX1_putAll_2 12 rfl rfl)
theorem dX1_putAll_62 : decode cX1_putAll 62 = .ok (.aload_n 1, 1) := dk_43 (dk_at dksX1_putAll_2 15 rfl rfl)
theorem dX1_putAll_63 : decode cX1_putAll 63 = .ok (.checkcast 216, 3) := dk_192 0 216 (dk_at dksX1_putAll_2 16 rfl rfl)
theorem dX1_putAll_66 : decode cX1_putAll 66 = .ok (.aload_n 0, 1) := dk_42 (dk_at dksX1_putAll_2 19 rfl rfl)
theorem dX1_putAll_67 : decode cX1_putAll 67 = .ok (.getfield 129, 3) := dk_180 0 129 (dk_at dksX1_putAll_2 20 rfl rfl)
theorem dX1_putAll_70 : decode cX1_putAll 70 = .ok (.iload_n 3, 1) := dk_29 (dk_at dksX1_putAll_2 23 rfl rfl)
theorem dX1_putAll_71 : decode cX1_putAll 71 = .ok (.iaload, 1) := dk_46 (dk_at dksX1_putAll_3 0 rfl rfl)
theorem dX1_putAll_72 : decode cX1_putAll 72 = .ok (.invokevirtual 416, 3) := dk_182 1 160 (dk_at dksX1_putAll_3 1 rfl rfl)
theorem dX1_putAll_75 : decode cX1_putAll 75 = .ok (.invokestatic 146, 3) := dk_184 0 146 (dk_at dksX1_putAll_3 4 rfl rfl)
theorem dX1_putAll_78 : decode cX1_putAll 78 = .ok (.iload 4, 2) := dk_21 4 (dk_at dksX1_putAll_3 7 rfl rfl)
theorem dX1_putAll_80 : decode cX1_putAll 80 = .ok (.aload_n 0, 1) := dk_42 (dk_at dksX1_putAll_3 9 rfl rfl)
theorem dX1_putAll_81 : decode cX1_putAll 81 = .ok (.aload_n 1, 1) := dk_43 (dk_at dksX1_putAll_3 10 rfl rfl)
theorem dX1_putAll_82 : decode cX1_putAll 82 = .ok (.iload_n 3, 1) := dk_29 (dk_at dksX1_putAll_3 11 rfl rfl)
theorem dX1_putAll_83 : decode cX1_putAll 83 = .ok (.invokevirtual 419, 3) := dk_182 1 163 (dk_at dksX1_putAll_3 12 rfl rfl)
theorem dX1_putAll_86 : decode cX1_putAll 86 = .ok (.ifCond .eq 7, 3) := dk_153 0 7 (dk_at dksX1_putAll_3 15 rfl rfl)
theorem dX1_putAll_89 : decode cX1_putAll 89 = .ok (.iconst 0, 1) := dk_3 (dk_at dksX1_putAll_3 18 rfl rfl)
theorem dX1_putAll_90 : decode cX1_putAll 90 = .ok (.goto 4, 3) := dk_167 0 4 (dk_at dksX1_putAll_3 19 rfl rfl)
theorem dX1_putAll_93 : decode cX1_putAll 93 = .ok (.iconst 1, 1) := dk_4 (dk_at dksX1_putAll_3 22 rfl rfl)
theorem dX1_putAll_94 : decode cX1_putAll 94 = .ok (.iadd, 1) := dk_96 (dk_at dksX1_putAll_3 23 rfl rfl)
theorem dX1_putAll_95 : decode cX1_putAll 95 = .ok (.istore 4, 2) := dk_54 4 (dk_at dksX1_putAll_4 0 rfl rfl)
theorem dX1_putAll_97 : decode cX1_putAll 97 = .ok (.iinc 3 1, 3) := dk_132 3 1 (dk_at dksX1_putAll_4 2 rfl rfl)
theorem dX1_putAll_100 : decode cX1_putAll 100 = .ok (.aload_n 2, 1) := dk_44 (dk_at dksX1_putAll_4 5 rfl rfl)
theorem dX1_putAll_101 : decode cX1_putAll 101 = .ok (.iload 5, 2) := dk_21 5 (dk_at dksX1_putAll_4 6 rfl rfl)
theorem dX1_putAll_103 : decode cX1_putAll 103 = .ok (.invokevirtual 423, 3) := dk_182 1 167 (dk_at dksX1_putAll_4 8 rfl rfl)
theorem dX1_putAll_106 : decode cX1_putAll 106 = .ok (.istore 5, 2) := dk_54 5 (dk_at dksX1_putAll_4 11 rfl rfl)
theorem dX1_putAll_108 : decode cX1_putAll 108 = .ok (.goto (-97), 3) := dk_167 255 159 (dk_at dksX1_putAll_4 13 rfl rfl)
theorem dX1_putAll_111 : decode cX1_putAll 111 = .ok (.aload_n 1, 1) := dk_43 (dk_at dksX1_putAll_4 16 rfl rfl)
theorem dX1_putAll_112 : decode cX1_putAll 112 = .ok (.invokevirtual 340, 3) := dk_182 1 84 (dk_at dksX1_putAll_4 17 rfl rfl)
theorem dX1_putAll_115 : decode cX1_putAll 115 = .ok (.iconst 3, 1) := dk_6 (dk_at dksX1_putAll_4 20 rfl rfl)
theorem dX1_putAll_116 : decode cX1_putAll 116 = .ok (.if_icmp .ne 17, 3) := dk_160 0 17 (dk_at dksX1_putAll_4 21 rfl rfl)
theorem dX1_putAll_119 : decode cX1_putAll 119 = .ok (.aload_n 1, 1) := dk_43 (dk_at dksX1_putAll_5 0 rfl rfl)
theorem dX1_putAll_120 : decode cX1_putAll 120 = .ok (.checkcast 188, 3) := dk_192 0 188 (dk_at dksX1_putAll_5 1 rfl rfl)
theorem dX1_putAll_123 : decode cX1_putAll 123 = .ok (.getfield 426, 3) := dk_180 1 170 (dk_at dksX1_putAll_5 4 rfl rfl)
theorem dX1_putAll_126 : decode cX1_putAll 126 = .ok (.ifCond .le 7, 3) := dk_158 0 7 (dk_at dksX1_putAll_5 7 rfl rfl)
theorem dX1_putAll_129 : decode cX1_putAll 129 = .ok (.iconst 1, 1) := dk_4 (dk_at dksX1_putAll_5 10 rfl rfl)
theorem dX1_putAll_130 : decode cX1_putAll 130 = .ok (.goto 4, 3) := dk_167 0 4 (dk_at dksX1_putAll_5 11 rfl rfl)
theorem dX1_putAll_133 : decode cX1_putAll 133 = .ok (.iconst 0, 1) := dk_3 (dk_at dksX1_putAll_5 14 rfl rfl)
theorem dX1_putAll_134 : decode cX1_putAll 134 = .ok (.istore 5, 2) := dk_54 5 (dk_at dksX1_putAll_5 15 rfl rfl)
theorem dX1_putAll_136 : decode cX1_putAll 136 = .ok (.iload 5, 2) := dk_21 5 (dk_at dksX1_putAll_5 17 rfl rfl)
theorem dX1_putAll_138 : decode cX1_putAll 138 = .ok (.ifCond .ne 16, 3) := dk_154 0 16 (dk_at dksX1_putAll_5 19 rfl rfl)
theorem dX1_putAll_141 : decode cX1_putAll 141 = .ok (.aload_n 1, 1) := dk_43 (dk_at dksX1_putAll_5 22 rfl rfl)
theorem dX1_putAll_142 : decode cX1_putAll 142 = .ok (.invokestatic 429, 3) := dk_184 1 173 (dk_at dksX1_putAll_6 0 rfl rfl)
theorem dX1_putAll_145 : decode cX1_putAll 145 = .ok (.iload 4, 2) := dk_21 4 (dk_at dksX1_putAll_6 3 rfl rfl)
theorem dX1_putAll_147 : decode cX1_putAll 147 = .ok (.iadd, 1) := dk_96 (dk_at dksX1_putAll_6 5 rfl rfl)
theorem dX1_putAll_148 : decode cX1_putAll 148 = .ok (.sipush 1000, 3) := dk_17 3 232 (dk_at dksX1_putAll_6 6 rfl rfl)
theorem dX1_putAll_151 : decode cX1_putAll 151 = .ok (.if_icmp .gt 7, 3) := dk_163 0 7 (dk_at dksX1_putAll_6 9 rfl rfl)
theorem dX1_putAll_154 : decode cX1_putAll 154 = .ok (.iconst 1, 1) := dk_4 (dk_at dksX1_putAll_6 12 rfl rfl)
theorem dX1_putAll_155 : decode cX1_putAll 155 = .ok (.goto 4, 3) := dk_167 0 4 (dk_at dksX1_putAll_6 13 rfl rfl)
theorem dX1_putAll_158 : decode cX1_putAll 158 = .ok (.iconst 0, 1) := dk_3 (dk_at dksX1_putAll_6 16 rfl rfl)
theorem dX1_putAll_159 : decode cX1_putAll 159 = .ok (.invokestatic 176, 3) := dk_184 0 176 (dk_at dksX1_putAll_6 17 rfl rfl)
theorem dX1_putAll_162 : decode cX1_putAll 162 = .ok (.iconst 0, 1) := dk_3 (dk_at dksX1_putAll_6 20 rfl rfl)
theorem dX1_putAll_163 : decode cX1_putAll 163 = .ok (.istore 6, 2) := dk_54 6 (dk_at dksX1_putAll_6 21 rfl rfl)
theorem dX1_putAll_165 : decode cX1_putAll 165 = .ok (.iload 6, 2) := dk_21 6 (dk_at dksX1_putAll_7 0 rfl rfl)
theorem dX1_putAll_167 : decode cX1_putAll 167 = .ok (.iload_n 3, 1) := dk_29 (dk_at dksX1_putAll_7 2 rfl rfl)
theorem dX1_putAll_168 : decode cX1_putAll 168 = .ok (.if_icmp .ge 31, 3) := dk_162 0 31 (dk_at dksX1_putAll_7 3 rfl rfl)
theorem dX1_putAll_171 : decode cX1_putAll 171 = .ok (.aload_n 1, 1) := dk_43 (dk_at dksX1_putAll_7 6 rfl rfl)
theorem dX1_putAll_172 : decode cX1_putAll 172 = .ok (.aload_n 0, 1) := dk_42 (dk_at dksX1_putAll_7 7 rfl rfl)
theorem dX1_putAll_173 : decode cX1_putAll 173 = .ok (.getfield 129, 3) := dk_180 0 129 (dk_at dksX1_putAll_7 8 rfl rfl)
theorem dX1_putAll_176 : decode cX1_putAll 176 = .ok (.iload 6, 2) := dk_21 6 (dk_at dksX1_putAll_7 11 rfl rfl)
theorem dX1_putAll_178 : decode cX1_putAll 178 = .ok (.iaload, 1) := dk_46 (dk_at dksX1_putAll_7 13 rfl rfl)
theorem dX1_putAll_179 : decode cX1_putAll 179 = .ok (.aload_n 0, 1) := dk_42 (dk_at dksX1_putAll_7 14 rfl rfl)
theorem dX1_putAll_180 : decode cX1_putAll 180 = .ok (.getfield 132, 3) := dk_180 0 132 (dk_at dksX1_putAll_7 15 rfl rfl)
theorem dX1_putAll_183 : decode cX1_putAll 183 = .ok (.iload 6, 2) := dk_21 6 (dk_at dksX1_putAll_7 18 rfl rfl)
theorem dX1_putAll_185 : decode cX1_putAll 185 = .ok (.iaload, 1) := dk_46 (dk_at dksX1_putAll_7 20 rfl rfl)
theorem dX1_putAll_186 : decode cX1_putAll 186 = .ok (.iconst 1, 1) := dk_4 (dk_at dksX1_putAll_7 21 rfl rfl)
theorem dX1_putAll_187 : decode cX1_putAll 187 = .ok (.iconst 1, 1) := dk_4 (dk_at dksX1_putAll_7 22 rfl rfl)
theorem dX1_putAll_188 : decode cX1_putAll 188 = .ok (.invokevirtual 352, 3) := dk_182 1 96 (dk_at dksX1_putAll_8 0 rfl rfl)
theorem dX1_putAll_191 : decode cX1_putAll 191 = .ok (.lstore 7, 2) := dk_55 7 (dk_at dksX1_putAll_8 3 rfl rfl)
theorem dX1_putAll_193 : decode cX1_putAll 193 = .ok (.iinc 6 1, 3) := dk_132 6 1 (dk_at dksX1_putAll_8 5 rfl rfl)
theorem dX1_putAll_196 : decode cX1_putAll 196 = .ok (.goto (-31), 3) := dk_167 255 225 (dk_at dksX1_putAll_8 8 rfl rfl)
theorem dX1_putAll_199 : decode cX1_putAll 199 = .ok (.iload_n 3, 1) := dk_29 (dk_at dksX1_putAll_8 11 rfl rfl)
theorem dX1_putAll_200 : decode cX1_putAll 200 = .ok (.i2l, 1) := dk_133 (dk_at dksX1_putAll_8 12 rfl rfl)
theorem dX1_putAll_201 : decode cX1_putAll 201 = .ok (.lreturn, 1) := dk_173 (dk_at dksX1_putAll_8 13 rfl rfl)
abbrev cX1_isSecond : ByteArray := prog_1_method_38_code
def yX1_isSecond : MethodName := ⟨RX1, "isSecond", "(LLibraryDesk$Maps;I)Z"⟩
def dkwX1_isSecond_2 : List UInt8 := [132, 3, 1, 167, 255, 227, 3, 172]
abbrev dktX1_isSecond_2 : List UInt8 := dkwX1_isSecond_2 ++ []
def dkwX1_isSecond_1 : List UInt8 := [162, 0, 30, 43, 42, 180, 0, 129, 29, 46, 42, 180, 0, 129, 28, 46, 184, 1, 176, 154, 0, 5, 4, 172]
abbrev dktX1_isSecond_1 : List UInt8 := dkwX1_isSecond_1 ++ dktX1_isSecond_2
def dkwX1_isSecond_0 : List UInt8 := [43, 182, 1, 84, 7, 159, 0, 14, 43, 182, 1, 84, 16, 20, 159, 0, 5, 3, 172, 3, 62, 29, 28]
abbrev dktX1_isSecond_0 : List UInt8 := dkwX1_isSecond_0 ++ dktX1_isSecond_1
theorem dksX1_isSecond_0 : cX1_isSecond.data.toList.drop 0 = dktX1_isSecond_0 := by decide +kernel
theorem dksX1_isSecond_1 : cX1_isSecond.data.toList.drop 23 = dktX1_isSecond_1 := dk_seg dksX1_isSecond_0 23 rfl rfl
theorem dksX1_isSecond_2 : cX1_isSecond.data.toList.drop 47 = dktX1_isSecond_2 := dk_seg dksX1_isSecond_1 24 rfl rfl
theorem dX1_isSecond_0 : decode cX1_isSecond 0 = .ok (.aload_n 1, 1) := dk_43 (dk_at dksX1_isSecond_0 0 rfl rfl)
theorem dX1_isSecond_1 : decode cX1_isSecond 1 = .ok (.invokevirtual 340, 3) := dk_182 1 84 (dk_at dksX1_isSecond_0 1 rfl rfl)
theorem dX1_isSecond_4 : decode cX1_isSecond 4 = .ok (.iconst 4, 1) := dk_7 (dk_at dksX1_isSecond_0 4 rfl rfl)
theorem dX1_isSecond_5 : decode cX1_isSecond 5 = .ok (.if_icmp .eq 14, 3) := dk_159 0 14 (dk_at dksX1_isSecond_0 5 rfl rfl)
theorem dX1_isSecond_8 : decode cX1_isSecond 8 = .ok (.aload_n 1, 1) := dk_43 (dk_at dksX1_isSecond_0 8 rfl rfl)
theorem dX1_isSecond_9 : decode cX1_isSecond 9 = .ok (.invokevirtual 340, 3) := dk_182 1 84 (dk_at dksX1_isSecond_0 9 rfl rfl)
theorem dX1_isSecond_12 : decode cX1_isSecond 12 = .ok (.bipush 20, 2) := dk_16 20 (dk_at dksX1_isSecond_0 12 rfl rfl)
theorem dX1_isSecond_14 : decode cX1_isSecond 14 = .ok (.if_icmp .eq 5, 3) := dk_159 0 5 (dk_at dksX1_isSecond_0 14 rfl rfl)
theorem dX1_isSecond_17 : decode cX1_isSecond 17 = .ok (.iconst 0, 1) := dk_3 (dk_at dksX1_isSecond_0 17 rfl rfl)
theorem dX1_isSecond_18 : decode cX1_isSecond 18 = .ok (.ireturn, 1) := dk_172 (dk_at dksX1_isSecond_0 18 rfl rfl)
theorem dX1_isSecond_19 : decode cX1_isSecond 19 = .ok (.iconst 0, 1) := dk_3 (dk_at dksX1_isSecond_0 19 rfl rfl)
theorem dX1_isSecond_20 : decode cX1_isSecond 20 = .ok (.istore_n 3, 1) := dk_62 (dk_at dksX1_isSecond_0 20 rfl rfl)
theorem dX1_isSecond_21 : decode cX1_isSecond 21 = .ok (.iload_n 3, 1) := dk_29 (dk_at dksX1_isSecond_0 21 rfl rfl)
theorem dX1_isSecond_22 : decode cX1_isSecond 22 = .ok (.iload_n 2, 1) := dk_28 (dk_at dksX1_isSecond_0 22 rfl rfl)
theorem dX1_isSecond_23 : decode cX1_isSecond 23 = .ok (.if_icmp .ge 30, 3) := dk_162 0 30 (dk_at dksX1_isSecond_1 0 rfl rfl)
theorem dX1_isSecond_26 : decode cX1_isSecond 26 = .ok (.aload_n 1, 1) := dk_43 (dk_at dksX1_isSecond_1 3 rfl rfl)
theorem dX1_isSecond_27 : decode cX1_isSecond 27 = .ok (.aload_n 0, 1) := dk_42 (dk_at dksX1_isSecond_1 4 rfl rfl)
theorem dX1_isSecond_28 : decode cX1_isSecond 28 = .ok (.getfield 129, 3) := dk_180 0 129 (dk_at dksX1_isSecond_1 5 rfl rfl)
theorem dX1_isSecond_31 : decode cX1_isSecond 31 = .ok (.iload_n 3, 1) := dk_29 (dk_at dksX1_isSecond_1 8 rfl rfl)
theorem dX1_isSecond_32 : decode cX1_isSecond 32 = .ok (.iaload, 1) := dk_46 (dk_at dksX1_isSecond_1 9 rfl rfl)
theorem dX1_isSecond_33 : decode cX1_isSecond 33 = .ok (.aload_n 0, 1) := dk_42 (dk_at dksX1_isSecond_1 10 rfl rfl)
theorem dX1_isSecond_34 : decode cX1_isSecond 34 = .ok (.getfield 129, 3) := dk_180 0 129 (dk_at dksX1_isSecond_1 11 rfl rfl)
theorem dX1_isSecond_37 : decode cX1_isSecond 37 = .ok (.iload_n 2, 1) := dk_28 (dk_at dksX1_isSecond_1 14 rfl rfl)
theorem dX1_isSecond_38 : decode cX1_isSecond 38 = .ok (.iaload, 1) := dk_46 (dk_at dksX1_isSecond_1 15 rfl rfl)
theorem dX1_isSecond_39 : decode cX1_isSecond 39 = .ok (.invokestatic 432, 3) := dk_184 1 176 (dk_at dksX1_isSecond_1 16 rfl rfl)
theorem dX1_isSecond_42 : decode cX1_isSecond 42 = .ok (.ifCond .ne 5, 3) := dk_154 0 5 (dk_at dksX1_isSecond_1 19 rfl rfl)
theorem dX1_isSecond_45 : decode cX1_isSecond 45 = .ok (.iconst 1, 1) := dk_4 (dk_at dksX1_isSecond_1 22 rfl rfl)
theorem dX1_isSecond_46 : decode cX1_isSecond 46 = .ok (.ireturn, 1) := dk_172 (dk_at dksX1_isSecond_1 23 rfl rfl)
theorem dX1_isSecond_47 : decode cX1_isSecond 47 = .ok (.iinc 3 1, 3) := dk_132 3 1 (dk_at dksX1_isSecond_2 0 rfl rfl)
theorem dX1_isSecond_50 : decode cX1_isSecond 50 = .ok (.goto (-29), 3) := dk_167 255 227 (dk_at dksX1_isSecond_2 3 rfl rfl)
theorem dX1_isSecond_53 : decode cX1_isSecond 53 = .ok (.iconst 0, 1) := dk_3 (dk_at dksX1_isSecond_2 6 rfl rfl)
theorem dX1_isSecond_54 : decode cX1_isSecond 54 = .ok (.ireturn, 1) := dk_172 (dk_at dksX1_isSecond_2 7 rfl rfl)
abbrev cX1_rootSize : ByteArray := prog_1_method_39_code
def yX1_rootSize : MethodName := ⟨RX1, "rootSize", "(LLibraryDesk$Maps;)I"⟩
def dkwX1_rootSize_1 : List UInt8 := [182, 1, 111, 172]
abbrev dktX1_rootSize_1 : List UInt8 := dkwX1_rootSize_1 ++ []
def dkwX1_rootSize_0 : List UInt8 := [42, 182, 1, 84, 16, 20, 160, 0, 16, 42, 192, 0, 216, 180, 1, 180, 182, 1, 184, 167, 0, 7, 42]
abbrev dktX1_rootSize_0 : List UInt8 := dkwX1_rootSize_0 ++ dktX1_rootSize_1
theorem dksX1_rootSize_0 : cX1_rootSize.data.toList.drop 0 = dktX1_rootSize_0 := by decide +kernel
theorem dksX1_rootSize_1 : cX1_rootSize.data.toList.drop 23 = dktX1_rootSize_1 := dk_seg dksX1_rootSize_0 23 rfl rfl
theorem dX1_rootSize_0 : decode cX1_rootSize 0 = .ok (.aload_n 0, 1) := dk_42 (dk_at dksX1_rootSize_0 0 rfl rfl)
theorem dX1_rootSize_1 : decode cX1_rootSize 1 = .ok (.invokevirtual 340, 3) := dk_182 1 84 (dk_at dksX1_rootSize_0 1 rfl rfl)
theorem dX1_rootSize_4 : decode cX1_rootSize 4 = .ok (.bipush 20, 2) := dk_16 20 (dk_at dksX1_rootSize_0 4 rfl rfl)
theorem dX1_rootSize_6 : decode cX1_rootSize 6 = .ok (.if_icmp .ne 16, 3) := dk_160 0 16 (dk_at dksX1_rootSize_0 6 rfl rfl)
theorem dX1_rootSize_9 : decode cX1_rootSize 9 = .ok (.aload_n 0, 1) := dk_42 (dk_at dksX1_rootSize_0 9 rfl rfl)
theorem dX1_rootSize_10 : decode cX1_rootSize 10 = .ok (.checkcast 216, 3) := dk_192 0 216 (dk_at dksX1_rootSize_0 10 rfl rfl)
theorem dX1_rootSize_13 : decode cX1_rootSize 13 = .ok (.getfield 436, 3) := dk_180 1 180 (dk_at dksX1_rootSize_0 13 rfl rfl)
theorem dX1_rootSize_16 : decode cX1_rootSize 16 = .ok (.invokevirtual 440, 3) := dk_182 1 184 (dk_at dksX1_rootSize_0 16 rfl rfl)
theorem dX1_rootSize_19 : decode cX1_rootSize 19 = .ok (.goto 7, 3) := dk_167 0 7 (dk_at dksX1_rootSize_0 19 rfl rfl)
theorem dX1_rootSize_22 : decode cX1_rootSize 22 = .ok (.aload_n 0, 1) := dk_42 (dk_at dksX1_rootSize_0 22 rfl rfl)
theorem dX1_rootSize_23 : decode cX1_rootSize 23 = .ok (.invokevirtual 367, 3) := dk_182 1 111 (dk_at dksX1_rootSize_1 0 rfl rfl)
theorem dX1_rootSize_26 : decode cX1_rootSize 26 = .ok (.ireturn, 1) := dk_172 (dk_at dksX1_rootSize_1 3 rfl rfl)
abbrev cX1_view : ByteArray := prog_1_method_40_code
def yX1_view : MethodName := ⟨RX1, "view", "(IIII)I"⟩
def dkwX1_view_12 : List UInt8 := [181, 1, 198, 42, 25, 8, 27, 182, 1, 32, 172]
abbrev dktX1_view_12 : List UInt8 := dkwX1_view_12 ++ []
def dkwX1_view_11 : List UInt8 := [182, 1, 195, 28, 7, 160, 0, 21, 25, 8, 25, 8, 180, 1, 198, 154, 0, 7, 4, 167, 0, 4, 3]
abbrev dktX1_view_11 : List UInt8 := dkwX1_view_11 ++ dktX1_view_12
def dkwX1_view_10 : List UInt8 := [28, 4, 159, 0, 8, 28, 5, 160, 0, 19, 25, 8, 28, 4, 160, 0, 8, 21, 4, 167, 0, 4, 29]
abbrev dktX1_view_10 : List UInt8 := dkwX1_view_10 ++ dktX1_view_11
def dkwX1_view_9 : List UInt8 := [25, 5, 192, 0, 164, 182, 1, 189, 28, 4, 159, 0, 8, 28, 6, 160, 0, 9, 25, 8, 29, 182, 1, 192]
abbrev dktX1_view_9 : List UInt8 := dkwX1_view_9 ++ dktX1_view_10
def dkwX1_view_8 : List UInt8 := [3, 184, 0, 146, 42, 182, 0, 233, 54, 7, 42, 16, 20, 182, 1, 26, 192, 0, 216, 58, 8, 25, 8]
abbrev dktX1_view_8 : List UInt8 := dkwX1_view_8 ++ dktX1_view_9
def dkwX1_view_7 : List UInt8 := [172, 28, 4, 160, 0, 17, 25, 5, 192, 0, 164, 29, 21, 4, 184, 1, 176, 157, 0, 7, 4, 167, 0, 4]
abbrev dktX1_view_7 : List UInt8 := dkwX1_view_7 ++ dktX1_view_8
def dkwX1_view_6 : List UInt8 := [192, 0, 207, 58, 9, 25, 9, 25, 7, 29, 21, 4, 29, 100, 182, 1, 186, 42, 25, 9, 27, 182, 1, 32]
abbrev dktX1_view_6 : List UInt8 := dkwX1_view_6 ++ dktX1_view_7
def dkwX1_view_5 : List UInt8 := [163, 0, 7, 4, 167, 0, 4, 3, 184, 0, 138, 42, 182, 0, 233, 54, 8, 42, 16, 10, 182, 1, 26]
abbrev dktX1_view_5 : List UInt8 := dkwX1_view_5 ++ dktX1_view_6
def dkwX1_view_4 : List UInt8 := [25, 7, 182, 1, 62, 3, 29, 163, 0, 23, 29, 21, 4, 163, 0, 17, 21, 4, 25, 7, 182, 1, 185]
abbrev dktX1_view_4 : List UInt8 := dkwX1_view_4 ++ dktX1_view_5
def dkwX1_view_3 : List UInt8 := [163, 0, 7, 4, 167, 0, 4, 3, 184, 0, 146, 21, 6, 153, 0, 81, 25, 5, 192, 0, 159, 58, 7]
abbrev dktX1_view_3 : List UInt8 := dkwX1_view_3 ++ dktX1_view_4
def dkwX1_view_2 : List UInt8 := [153, 0, 15, 28, 154, 0, 7, 4, 167, 0, 22, 3, 167, 0, 18, 28, 4, 161, 0, 12, 28, 7]
abbrev dktX1_view_2 : List UInt8 := dkwX1_view_2 ++ dktX1_view_3
def dkwX1_view_1 : List UInt8 := [7, 159, 0, 13, 25, 5, 182, 0, 166, 16, 20, 160, 0, 7, 4, 167, 0, 4, 3, 184, 0, 161, 21, 6]
abbrev dktX1_view_1 : List UInt8 := dkwX1_view_1 ++ dktX1_view_2
def dkwX1_view_0 : List UInt8 := [42, 27, 182, 0, 155, 58, 5, 25, 5, 193, 0, 159, 54, 6, 21, 6, 154, 0, 22, 25, 5, 182, 0, 166]
abbrev dktX1_view_0 : List UInt8 := dkwX1_view_0 ++ dktX1_view_1
theorem dksX1_view_0 : cX1_view.data.toList.drop 0 = dktX1_view_0 := by decide +kernel
theorem dksX1_view_1 : cX1_view.data.toList.drop 24 = dktX1_view_1 := dk_seg dksX1_view_0 24 rfl rfl
theorem dksX1_view_2 : cX1_view.data.toList.drop 48 = dktX1_view_2 := dk_seg dksX1_view_1 24 rfl rfl
theorem dksX1_view_3 : cX1_view.data.toList.drop 70 = dktX1_view_3 := dk_seg dksX1_view_2 22 rfl rfl
theorem dksX1_view_4 : cX1_view.data.toList.drop 93 = dktX1_view_4 := dk_seg dksX1_view_3 23 rfl rfl
theorem dksX1_view_5 : cX1_view.data.toList.drop 116 = dktX1_view_5 := dk_seg dksX1_view_4 23 rfl rfl
theorem dksX1_view_6 : cX1_view.data.toList.drop 139 = dktX1_view_6 := dk_seg dksX1_view_5 23 rfl rfl
theorem dksX1_view_7 : cX1_view.data.toList.drop 163 = dktX1_view_7 := dk_seg dksX1_view_6 24 rfl rfl
theorem dksX1_view_8 : cX1_view.data.toList.drop 187 = dktX1_view_8 := dk_seg dksX1_view_7 24 rfl rfl
theorem dksX1_view_9 : cX1_view.data.toList.drop 210 = dktX1_view_9 := dk_seg dksX1_view_8 23 rfl rfl
theorem dksX1_view_10 : cX1_view.data.toList.drop 234 = dktX1_view_10 := dk_seg dksX1_view_9 24 rfl rfl
theorem dksX1_view_11 : cX1_view.data.toList.drop 257 = dktX1_view_11 := dk_seg dksX1_view_10 23 rfl rfl
theorem dksX1_view_12 : cX1_view.data.toList.drop 280 = dktX1_view_12 := dk_seg dksX1_view_11 23 rfl rfl
theorem dX1_view_0 : decode cX1_view 0 = .ok (.aload_n 0, 1) := dk_42 (dk_at dksX1_view_0 0 rfl rfl)
theorem dX1_view_1 : decode cX1_view 1 = .ok (.iload_n 1, 1) := dk_27 (dk_at dksX1_view_0 1 rfl rfl)
theorem dX1_view_2 : decode cX1_view 2 = .ok (.invokevirtual 155, 3) := dk_182 0 155 (dk_at dksX1_view_0 2 rfl rfl)
theorem dX1_view_5 : decode cX1_view 5 = .ok (.astore 5, 2) := dk_58 5 (dk_at dksX1_view_0 5 rfl rfl)
theorem dX1_view_7 : decode cX1_view 7 = .ok (.aload 5, 2) := dk_25 5 (dk_at dksX1_view_0 7 rfl rfl)
theorem dX1_view_9 : decode cX1_view 9 = .ok (.instanceof 159, 3) := dk_193 0 159 (dk_at dksX1_view_0 9 rfl rfl)
theorem dX1_view_12 : decode cX1_view 12 = .ok (.istore 6, 2) := dk_54 6 (dk_at dksX1_view_0 12 rfl rfl)
theorem dX1_view_14 : decode cX1_view 14 = .ok (.iload 6, 2) := dk_21 6 (dk_at dksX1_view_0 14 rfl rfl)
theorem dX1_view_16 : decode cX1_view 16 = .ok (.ifCond .ne 22, 3) := dk_154 0 22 (dk_at dksX1_view_0 16 rfl rfl)
theorem dX1_view_19 : decode cX1_view 19 = .ok (.aload 5, 2) := dk_25 5 (dk_at dksX1_view_0 19 rfl rfl)
theorem dX1_view_21 : decode cX1_view 21 = .ok (.invokevirtual 166, 3) := dk_182 0 166 (dk_at dksX1_view_0 21 rfl rfl)
theorem dX1_view_24 : decode cX1_view 24 = .ok (.iconst 4, 1) := dk_7 (dk_at dksX1_view_1 0 rfl rfl)
theorem dX1_view_25 : decode cX1_view 25 = .ok (.if_icmp .eq 13, 3) := dk_159 0 13 (dk_at dksX1_view_1 1 rfl rfl)
theorem dX1_view_28 : decode cX1_view 28 = .ok (.aload 5, 2) := dk_25 5 (dk_at dksX1_view_1 4 rfl rfl)
theorem dX1_view_30 : decode cX1_view 30 = .ok (.invokevirtual 166, 3) := dk_182 0 166 (dk_at dksX1_view_1 6 rfl rfl)
theorem dX1_view_33 : decode cX1_view 33 = .ok (.bipush 20, 2) := dk_16 20 (dk_at dksX1_view_1 9 rfl rfl)
theorem dX1_view_35 : decode cX1_view 35 = .ok (.if_icmp .ne 7, 3) := dk_160 0 7 (dk_at dksX1_view_1 11 rfl rfl)
theorem dX1_view_38 : decode cX1_view 38 = .ok (.iconst 1, 1) := dk_4 (dk_at dksX1_view_1 14 rfl rfl)
theorem dX1_view_39 : decode cX1_view 39 = .ok (.goto 4, 3) := dk_167 0 4 (dk_at dksX1_view_1 15 rfl rfl)
theorem dX1_view_42 : decode cX1_view 42 = .ok (.iconst 0, 1) := dk_3 (dk_at dksX1_view_1 18 rfl rfl)
theorem dX1_view_43 : decode cX1_view 43 = .ok (.invokestatic 161, 3) := dk_184 0 161 (dk_at dksX1_view_1 19 rfl rfl)
theorem dX1_view_46 : decode cX1_view 46 = .ok (.iload 6, 2) := dk_21 6 (dk_at dksX1_view_1 22 rfl rfl)
theorem dX1_view_48 : decode cX1_view 48 = .ok (.ifCond .eq 15, 3) := dk_153 0 15 (dk_at dksX1_view_2 0 rfl rfl)
theorem dX1_view_51 : decode cX1_view 51 = .ok (.iload_n 2, 1) := dk_28 (dk_at dksX1_view_2 3 rfl rfl)
theorem dX1_view_52 : decode cX1_view 52 = .ok (.ifCond .ne 7, 3) := dk_154 0 7 (dk_at dksX1_view_2 4 rfl rfl)
theorem dX1_view_55 : decode cX1_view 55 = .ok (.iconst 1, 1) := dk_4 (dk_at dksX1_view_2 7 rfl rfl)
theorem dX1_view_56 : decode cX1_view 56 = .ok (.goto 22, 3) := dk_167 0 22 (dk_at dksX1_view_2 8 rfl rfl)
theorem dX1_view_59 : decode cX1_view 59 = .ok (.iconst 0, 1) := dk_3 (dk_at dksX1_view_2 11 rfl rfl)
theorem dX1_view_60 : decode cX1_view 60 = .ok (.goto 18, 3) := dk_167 0 18 (dk_at dksX1_view_2 12 rfl rfl)
theorem dX1_view_63 : decode cX1_view 63 = .ok (.iload_n 2, 1) := dk_28 (dk_at dksX1_view_2 15 rfl rfl)
theorem dX1_view_64 : decode cX1_view 64 = .ok (.iconst 1, 1) := dk_4 (dk_at dksX1_view_2 16 rfl rfl)
theorem dX1_view_65 : decode cX1_view 65 = .ok (.if_icmp .lt 12, 3) := dk_161 0 12 (dk_at dksX1_view_2 17 rfl rfl)
theorem dX1_view_68 : decode cX1_view 68 = .ok (.iload_n 2, 1) := dk_28 (dk_at dksX1_view_2 20 rfl rfl)
theorem dX1_view_69 : decode cX1_view 69 = .ok (.iconst 4, 1) := dk_7 (dk_at dksX1_view_2 21 rfl rfl)
theorem dX1_view_70 : decode cX1_view 70 = .ok (.if_icmp .gt 7, 3) := dk_163 0 7 (dk_at dksX1_view_3 0 rfl rfl)
theorem dX1_view_73 : decode cX1_view 73 = .ok (.iconst 1, 1) := dk_4 (dk_at dksX1_view_3 3 rfl rfl)
theorem dX1_view_74 : decode cX1_view 74 = .ok (.goto 4, 3) := dk_167 0 4 (dk_at dksX1_view_3 4 rfl rfl)
theorem dX1_view_77 : decode cX1_view 77 = .ok (.iconst 0, 1) := dk_3 (dk_at dksX1_view_3 7 rfl rfl)
theorem dX1_view_78 : decode cX1_view 78 = .ok (.invokestatic 146, 3) := dk_184 0 146 (dk_at dksX1_view_3 8 rfl rfl)
theorem dX1_view_81 : decode cX1_view 81 = .ok (.iload 6, 2) := dk_21 6 (dk_at dksX1_view_3 11 rfl rfl)
theorem dX1_view_83 : decode cX1_view 83 = .ok (.ifCond .eq 81, 3) := dk_153 0 81 (dk_at dksX1_view_3 13 rfl rfl)
theorem dX1_view_86 : decode cX1_view 86 = .ok (.aload 5, 2) := dk_25 5 (dk_at dksX1_view_3 16 rfl rfl)
theorem dX1_view_88 : decode cX1_view 88 = .ok (.checkcast 159, 3) := dk_192 0 159 (dk_at dksX1_view_3 18 rfl rfl)
theorem dX1_view_91 : decode cX1_view 91 = .ok (.astore 7, 2) := dk_58 7 (dk_at dksX1_view_3 21 rfl rfl)
theorem dX1_view_93 : decode cX1_view 93 = .ok (.aload 7, 2) := dk_25 7 (dk_at dksX1_view_4 0 rfl rfl)
theorem dX1_view_95 : decode cX1_view 95 = .ok (.invokevirtual 318, 3) := dk_182 1 62 (dk_at dksX1_view_4 2 rfl rfl)
theorem dX1_view_98 : decode cX1_view 98 = .ok (.iconst 0, 1) := dk_3 (dk_at dksX1_view_4 5 rfl rfl)
theorem dX1_view_99 : decode cX1_view 99 = .ok (.iload_n 3, 1) := dk_29 (dk_at dksX1_view_4 6 rfl rfl)
theorem dX1_view_100 : decode cX1_view 100 = .ok (.if_icmp .gt 23, 3) := dk_163 0 23 (dk_at dksX1_view_4 7 rfl rfl)
theorem dX1_view_103 : decode cX1_view 103 = .ok (.iload_n 3, 1) := dk_29 (dk_at dksX1_view_4 10 rfl rfl)
theorem dX1_view_104 : decode cX1_view 104 = .ok (.iload 4, 2) := dk_21 4 (dk_at dksX1_view_4 11 rfl rfl)
theorem dX1_view_106 : decode cX1_view 106 = .ok (.if_icmp .gt 17, 3) := dk_163 0 17 (dk_at dksX1_view_4 13 rfl rfl)
theorem dX1_view_109 : decode cX1_view 109 = .ok (.iload 4, 2) := dk_21 4 (dk_at dksX1_view_4 16 rfl rfl)
theorem dX1_view_111 : decode cX1_view 111 = .ok (.aload 7, 2) := dk_25 7 (dk_at dksX1_view_4 18 rfl rfl)
theorem dX1_view_113 : decode cX1_view 113 = .ok (.invokevirtual 441, 3) := dk_182 1 185 (dk_at dksX1_view_4 20 rfl rfl)
theorem dX1_view_116 : decode cX1_view 116 = .ok (.if_icmp .gt 7, 3) := dk_163 0 7 (dk_at dksX1_view_5 0 rfl rfl)
theorem dX1_view_119 : decode cX1_view 119 = .ok (.iconst 1, 1) := dk_4 (dk_at dksX1_view_5 3 rfl rfl)
theorem dX1_view_120 : decode cX1_view 120 = .ok (.goto 4, 3) := dk_167 0 4 (dk_at dksX1_view_5 4 rfl rfl)
theorem dX1_view_123 : decode cX1_view 123 = .ok (.iconst 0, 1) := dk_3 (dk_at dksX1_view_5 7 rfl rfl)
theorem dX1_view_124 : decode cX1_view 124 = .ok (.invokestatic 138, 3) := dk_184 0 138 (dk_at dksX1_view_5 8 rfl rfl)
theorem dX1_view_127 : decode cX1_view 127 = .ok (.aload_n 0, 1) := dk_42 (dk_at dksX1_view_5 11 rfl rfl)
theorem dX1_view_128 : decode cX1_view 128 = .ok (.invokevirtual 233, 3) := dk_182 0 233 (dk_at dksX1_view_5 12 rfl rfl)
theorem dX1_view_131 : decode cX1_view 131 = .ok (.istore 8, 2) := dk_54 8 (dk_at dksX1_view_5 15 rfl rfl)
theorem dX1_view_133 : decode cX1_view 133 = .ok (.aload_n 0, 1) := dk_42 (dk_at dksX1_view_5 17 rfl rfl)
theorem dX1_view_134 : decode cX1_view 134 = .ok (.bipush 10, 2) := dk_16 10 (dk_at dksX1_view_5 18 rfl rfl)
theorem dX1_view_136 : decode cX1_view 136 = .ok (.invokevirtual 282, 3) := dk_182 1 26 (dk_at dksX1_view_5 20 rfl rfl)
theorem dX1_view_139 : decode cX1_view 139 = .ok (.checkcast 207, 3) := dk_192 0 207 (dk_at dksX1_view_6 0 rfl rfl)
theorem dX1_view_142 : decode cX1_view 142 = .ok (.astore 9, 2) := dk_58 9 (dk_at dksX1_view_6 3 rfl rfl)
theorem dX1_view_144 : decode cX1_view 144 = .ok (.aload 9, 2) := dk_25 9 (dk_at dksX1_view_6 5 rfl rfl)
theorem dX1_view_146 : decode cX1_view 146 = .ok (.aload 7, 2) := dk_25 7 (dk_at dksX1_view_6 7 rfl rfl)
theorem dX1_view_148 : decode cX1_view 148 = .ok (.iload_n 3, 1) := dk_29 (dk_at dksX1_view_6 9 rfl rfl)
theorem dX1_view_149 : decode cX1_view 149 = .ok (.iload 4, 2) := dk_21 4 (dk_at dksX1_view_6 10 rfl rfl)
theorem dX1_view_151 : decode cX1_view 151 = .ok (.iload_n 3, 1) := dk_29 (dk_at dksX1_view_6 12 rfl rfl)
theorem dX1_view_152 : decode cX1_view 152 = .ok (.isub, 1) := dk_100 (dk_at dksX1_view_6 13 rfl rfl)
theorem dX1_view_153 : decode cX1_view 153 = .ok (.invokevirtual 442, 3) := dk_182 1 186 (dk_at dksX1_view_6 14 rfl rfl)
theorem dX1_view_156 : decode cX1_view 156 = .ok (.aload_n 0, 1) := dk_42 (dk_at dksX1_view_6 17 rfl rfl)
theorem dX1_view_157 : decode cX1_view 157 = .ok (.aload 9, 2) := dk_25 9 (dk_at dksX1_view_6 18 rfl rfl)
theorem dX1_view_159 : decode cX1_view 159 = .ok (.iload_n 1, 1) := dk_27 (dk_at dksX1_view_6 20 rfl rfl)
theorem dX1_view_160 : decode cX1_view 160 = .ok (.invokevirtual 288, 3) := dk_182 1 32 (dk_at dksX1_view_6 21 rfl rfl)
theorem dX1_view_163 : decode cX1_view 163 = .ok (.ireturn, 1) := dk_172 (dk_at dksX1_view_7 0 rfl rfl)
theorem dX1_view_164 : decode cX1_view 164 = .ok (.iload_n 2, 1) := dk_28 (dk_at dksX1_view_7 1 rfl rfl)
theorem dX1_view_165 : decode cX1_view 165 = .ok (.iconst 1, 1) := dk_4 (dk_at dksX1_view_7 2 rfl rfl)
theorem dX1_view_166 : decode cX1_view 166 = .ok (.if_icmp .ne 17, 3) := dk_160 0 17 (dk_at dksX1_view_7 3 rfl rfl)
theorem dX1_view_169 : decode cX1_view 169 = .ok (.aload 5, 2) := dk_25 5 (dk_at dksX1_view_7 6 rfl rfl)
theorem dX1_view_171 : decode cX1_view 171 = .ok (.checkcast 164, 3) := dk_192 0 164 (dk_at dksX1_view_7 8 rfl rfl)
theorem dX1_view_174 : decode cX1_view 174 = .ok (.iload_n 3, 1) := dk_29 (dk_at dksX1_view_7 11 rfl rfl)
theorem dX1_view_175 : decode cX1_view 175 = .ok (.iload 4, 2) := dk_21 4 (dk_at dksX1_view_7 12 rfl rfl)
theorem dX1_view_177 : decode cX1_view 177 = .ok (.invokestatic 432, 3) := dk_184 1 176 (dk_at dksX1_view_7 14 rfl rfl)
theorem dX1_view_180 : decode cX1_view 180 = .ok (.ifCond .gt 7, 3) := dk_157 0 7 (dk_at dksX1_view_7 17 rfl rfl)
theorem dX1_view_183 : decode cX1_view 183 = .ok (.iconst 1, 1) := dk_4 (dk_at dksX1_view_7 20 rfl rfl)
theorem dX1_view_184 : decode cX1_view 184 = .ok (.goto 4, 3) := dk_167 0 4 (dk_at dksX1_view_7 21 rfl rfl)
theorem dX1_view_187 : decode cX1_view 187 = .ok (.iconst 0, 1) := dk_3 (dk_at dksX1_view_8 0 rfl rfl)
theorem dX1_view_188 : decode cX1_view 188 = .ok (.invokestatic 146, 3) := dk_184 0 146 (dk_at dksX1_view_8 1 rfl rfl)
theorem dX1_view_191 : decode cX1_view 191 = .ok (.aload_n 0, 1) := dk_42 (dk_at dksX1_view_8 4 rfl rfl)
theorem dX1_view_192 : decode cX1_view 192 = .ok (.invokevirtual 233, 3) := dk_182 0 233 (dk_at dksX1_view_8 5 rfl rfl)
theorem dX1_view_195 : decode cX1_view 195 = .ok (.istore 7, 2) := dk_54 7 (dk_at dksX1_view_8 8 rfl rfl)
theorem dX1_view_197 : decode cX1_view 197 = .ok (.aload_n 0, 1) := dk_42 (dk_at dksX1_view_8 10 rfl rfl)
theorem dX1_view_198 : decode cX1_view 198 = .ok (.bipush 20, 2) := dk_16 20 (dk_at dksX1_view_8 11 rfl rfl)
theorem dX1_view_200 : decode cX1_view 200 = .ok (.invokevirtual 282, 3) := dk_182 1 26 (dk_at dksX1_view_8 13 rfl rfl)
theorem dX1_view_203 : decode cX1_view 203 = .ok (.checkcast 216, 3) := dk_192 0 216 (dk_at dksX1_view_8 16 rfl rfl)
theorem dX1_view_206 : decode cX1_view 206 = .ok (.astore 8, 2) := dk_58 8 (dk_at dksX1_view_8 19 rfl rfl)
theorem dX1_view_208 : decode cX1_view 208 = .ok (.aload 8, 2) := dk_25 8 (dk_at dksX1_view_8 21 rfl rfl)
theorem dX1_view_210 : decode cX1_view 210 = .ok (.aload 5, 2) := dk_25 5 (dk_at dksX1_view_9 0 rfl rfl)
theorem dX1_view_212 : decode cX1_view 212 = .ok (.checkcast 164, 3) := dk_192 0 164 (dk_at dksX1_view_9 2 rfl rfl)
theorem dX1_view_215 : decode cX1_view 215 = .ok (.invokevirtual 445, 3) := dk_182 1 189 (dk_at dksX1_view_9 5 rfl rfl)
theorem dX1_view_218 : decode cX1_view 218 = .ok (.iload_n 2, 1) := dk_28 (dk_at dksX1_view_9 8 rfl rfl)
theorem dX1_view_219 : decode cX1_view 219 = .ok (.iconst 1, 1) := dk_4 (dk_at dksX1_view_9 9 rfl rfl)
theorem dX1_view_220 : decode cX1_view 220 = .ok (.if_icmp .eq 8, 3) := dk_159 0 8 (dk_at dksX1_view_9 10 rfl rfl)
theorem dX1_view_223 : decode cX1_view 223 = .ok (.iload_n 2, 1) := dk_28 (dk_at dksX1_view_9 13 rfl rfl)
theorem dX1_view_224 : decode cX1_view 224 = .ok (.iconst 3, 1) := dk_6 (dk_at dksX1_view_9 14 rfl rfl)
theorem dX1_view_225 : decode cX1_view 225 = .ok (.if_icmp .ne 9, 3) := dk_160 0 9 (dk_at dksX1_view_9 15 rfl rfl)
theorem dX1_view_228 : decode cX1_view 228 = .ok (.aload 8, 2) := dk_25 8 (dk_at dksX1_view_9 18 rfl rfl)
theorem dX1_view_230 : decode cX1_view 230 = .ok (.iload_n 3, 1) := dk_29 (dk_at dksX1_view_9 20 rfl rfl)
theorem dX1_view_231 : decode cX1_view 231 = .ok (.invokevirtual 448, 3) := dk_182 1 192 (dk_at dksX1_view_9 21 rfl rfl)
theorem dX1_view_234 : decode cX1_view 234 = .ok (.iload_n 2, 1) := dk_28 (dk_at dksX1_view_10 0 rfl rfl)
theorem dX1_view_235 : decode cX1_view 235 = .ok (.iconst 1, 1) := dk_4 (dk_at dksX1_view_10 1 rfl rfl)
theorem dX1_view_236 : decode cX1_view 236 = .ok (.if_icmp .eq 8, 3) := dk_159 0 8 (dk_at dksX1_view_10 2 rfl rfl)
theorem dX1_view_239 : decode cX1_view 239 = .ok (.iload_n 2, 1) := dk_28 (dk_at dksX1_view_10 5 rfl rfl)
theorem dX1_view_240 : decode cX1_view 240 = .ok (.iconst 2, 1) := dk_5 (dk_at dksX1_view_10 6 rfl rfl)
theorem dX1_view_241 : decode cX1_view 241 = .ok (.if_icmp .ne 19, 3) := dk_160 0 19 (dk_at dksX1_view_10 7 rfl rfl)
theorem dX1_view_244 : decode cX1_view 244 = .ok (.aload 8, 2) := dk_25 8 (dk_at dksX1_view_10 10 rfl rfl)
theorem dX1_view_246 : decode cX1_view 246 = .ok (.iload_n 2, 1) := dk_28 (dk_at dksX1_view_10 12 rfl rfl)
theorem dX1_view_247 : decode cX1_view 247 = .ok (.iconst 1, 1) := dk_4 (dk_at dksX1_view_10 13 rfl rfl)
theorem dX1_view_248 : decode cX1_view 248 = .ok (.if_icmp .ne 8, 3) := dk_160 0 8 (dk_at dksX1_view_10 14 rfl rfl)
theorem dX1_view_251 : decode cX1_view 251 = .ok (.iload 4, 2) := dk_21 4 (dk_at dksX1_view_10 17 rfl rfl)
theorem dX1_view_253 : decode cX1_view 253 = .ok (.goto 4, 3) := dk_167 0 4 (dk_at dksX1_view_10 19 rfl rfl)
theorem dX1_view_256 : decode cX1_view 256 = .ok (.iload_n 3, 1) := dk_29 (dk_at dksX1_view_10 22 rfl rfl)
theorem dX1_view_257 : decode cX1_view 257 = .ok (.invokevirtual 451, 3) := dk_182 1 195 (dk_at dksX1_view_11 0 rfl rfl)
theorem dX1_view_260 : decode cX1_view 260 = .ok (.iload_n 2, 1) := dk_28 (dk_at dksX1_view_11 3 rfl rfl)
theorem dX1_view_261 : decode cX1_view 261 = .ok (.iconst 4, 1) := dk_7 (dk_at dksX1_view_11 4 rfl rfl)
theorem dX1_view_262 : decode cX1_view 262 = .ok (.if_icmp .ne 21, 3) := dk_160 0 21 (dk_at dksX1_view_11 5 rfl rfl)
theorem dX1_view_265 : decode cX1_view 265 = .ok (.aload 8, 2) := dk_25 8 (dk_at dksX1_view_11 8 rfl rfl)
theorem dX1_view_267 : decode cX1_view 267 = .ok (.aload 8, 2) := dk_25 8 (dk_at dksX1_view_11 10 rfl rfl)
theorem dX1_view_269 : decode cX1_view 269 = .ok (.getfield 454, 3) := dk_180 1 198 (dk_at dksX1_view_11 12 rfl rfl)
theorem dX1_view_272 : decode cX1_view 272 = .ok (.ifCond .ne 7, 3) := dk_154 0 7 (dk_at dksX1_view_11 15 rfl rfl)
theorem dX1_view_275 : decode cX1_view 275 = .ok (.iconst 1, 1) := dk_4 (dk_at dksX1_view_11 18 rfl rfl)
theorem dX1_view_276 : decode cX1_view 276 = .ok (.goto 4, 3) := dk_167 0 4 (dk_at dksX1_view_11 19 rfl rfl)
theorem dX1_view_279 : decode cX1_view 279 = .ok (.iconst 0, 1) := dk_3 (dk_at dksX1_view_11 22 rfl rfl)
theorem dX1_view_280 : decode cX1_view 280 = .ok (.putfield 454, 3) := dk_181 1 198 (dk_at dksX1_view_12 0 rfl rfl)
theorem dX1_view_283 : decode cX1_view 283 = .ok (.aload_n 0, 1) := dk_42 (dk_at dksX1_view_12 3 rfl rfl)
theorem dX1_view_284 : decode cX1_view 284 = .ok (.aload 8, 2) := dk_25 8 (dk_at dksX1_view_12 4 rfl rfl)
theorem dX1_view_286 : decode cX1_view 286 = .ok (.iload_n 1, 1) := dk_27 (dk_at dksX1_view_12 6 rfl rfl)
theorem dX1_view_287 : decode cX1_view 287 = .ok (.invokevirtual 288, 3) := dk_182 1 32 (dk_at dksX1_view_12 7 rfl rfl)
theorem dX1_view_290 : decode cX1_view 290 = .ok (.ireturn, 1) := dk_172 (dk_at dksX1_view_12 10 rfl rfl)
abbrev cX1_cursor : ByteArray := prog_1_method_41_code
def yX1_cursor : MethodName := ⟨RX1, "curso\x72", "(I)I"⟩
def dkwX1_cursor_2 : List UInt8 := [16, 9, 182, 1, 26, 192, 0, 204, 58, 4, 25, 4, 44, 182, 1, 201, 42, 25, 4, 27, 182, 1, 32, 172]
abbrev dktX1_cursor_2 : List UInt8 := dkwX1_cursor_2 ++ []
def dkwX1_cursor_1 : List UInt8 := [3, 184, 0, 161, 44, 193, 0, 159, 153, 0, 10, 44, 192, 0, 159, 182, 1, 62, 42, 182, 0, 233, 62, 42]
abbrev dktX1_cursor_1 : List UInt8 := dkwX1_cursor_1 ++ dktX1_cursor_2
def dkwX1_cursor_0 : List UInt8 := [42, 27, 182, 0, 155, 77, 44, 193, 0, 159, 154, 0, 10, 44, 193, 0, 164, 153, 0, 7, 4, 167, 0, 4]
abbrev dktX1_cursor_0 : List UInt8 := dkwX1_cursor_0 ++ dktX1_cursor_1
theorem dksX1_cursor_0 : cX1_cursor.data.toList.drop 0 = dktX1_cursor_0 := by decide +kernel
theorem dksX1_cursor_1 : cX1_cursor.data.toList.drop 24 = dktX1_cursor_1 := dk_seg dksX1_cursor_0 24 rfl rfl
theorem dksX1_cursor_2 : cX1_cursor.data.toList.drop 48 = dktX1_cursor_2 := dk_seg dksX1_cursor_1 24 rfl rfl
theorem dX1_cursor_0 : decode cX1_cursor 0 = .ok (.aload_n 0, 1) := dk_42 (dk_at dksX1_cursor_0 0 rfl rfl)
theorem dX1_cursor_1 : decode cX1_cursor 1 = .ok (.iload_n 1, 1) := dk_27 (dk_at dksX1_cursor_0 1 rfl rfl)
theorem dX1_cursor_2 : decode cX1_cursor 2 = .ok (.invokevirtual 155, 3) := dk_182 0 155 (dk_at dksX1_cursor_0 2 rfl rfl)
theorem dX1_cursor_5 : decode cX1_cursor 5 = .ok (.astore_n 2, 1) := dk_77 (dk_at dksX1_cursor_0 5 rfl rfl)
theorem dX1_cursor_6 : decode cX1_cursor 6 = .ok (.aload_n 2, 1) := dk_44 (dk_at dksX1_cursor_0 6 rfl rfl)
theorem dX1_cursor_7 : decode cX1_cursor 7 = .ok (.instanceof 159, 3) := dk_193 0 159 (dk_at dksX1_cursor_0 7 rfl rfl)
theorem dX1_cursor_10 : decode cX1_cursor 10 = .ok (.ifCond .ne 10, 3) := dk_154 0 10 (dk_at dksX1_cursor_0 10 rfl rfl)
theorem dX1_cursor_13 : decode cX1_cursor 13 = .ok (.aload_n 2, 1) := dk_44 (dk_at dksX1_cursor_0 13 rfl rfl)
theorem dX1_cursor_14 : decode cX1_cursor 14 = .ok (.instanceof 164, 3) := dk_193 0 164 (dk_at dksX1_cursor_0 14 rfl rfl)
theorem dX1_cursor_17 : decode cX1_cursor 17 = .ok (.ifCond .eq 7, 3) := dk_153 0 7 (dk_at dksX1_cursor_0 17 rfl rfl)
theorem dX1_cursor_20 : decode cX1_cursor 20 = .ok (.iconst 1, 1) := dk_4 (dk_at dksX1_cursor_0 20 rfl rfl)
theorem dX1_cursor_21 : decode cX1_cursor 21 = .ok (.goto 4, 3) := dk_167 0 4 (dk_at dksX1_cursor_0 21 rfl rfl)
theorem dX1_cursor_24 : decode cX1_cursor 24 = .ok (.iconst 0, 1) := dk_3 (dk_at dksX1_cursor_1 0 rfl rfl)
theorem dX1_cursor_25 : decode cX1_cursor 25 = .ok (.invokestatic 161, 3) := dk_184 0 161 (dk_at dksX1_cursor_1 1 rfl rfl)
theorem dX1_cursor_28 : decode cX1_cursor 28 = .ok (.aload_n 2, 1) := dk_44 (dk_at dksX1_cursor_1 4 rfl rfl)
theorem dX1_cursor_29 : decode cX1_cursor 29 = .ok (.instanceof 159, 3) := dk_193 0 159 (dk_at dksX1_cursor_1 5 rfl rfl)
theorem dX1_cursor_32 : decode cX1_cursor 32 = .ok (.ifCond .eq 10, 3) := dk_153 0 10 (dk_at dksX1_cursor_1 8 rfl rfl)
theorem dX1_cursor_35 : decode cX1_cursor 35 = .ok (.aload_n 2, 1) := dk_44 (dk_at dksX1_cursor_1 11 rfl rfl)
theorem dX1_cursor_36 : decode cX1_cursor 36 = .ok (.checkcast 159, 3) := dk_192 0 159 (dk_at dksX1_cursor_1 12 rfl rfl)
theorem dX1_cursor_39 : decode cX1_cursor 39 = .ok (.invokevirtual 318, 3) := dk_182 1 62 (dk_at dksX1_cursor_1 15 rfl rfl)
theorem dX1_cursor_42 : decode cX1_cursor 42 = .ok (.aload_n 0, 1) := dk_42 (dk_at dksX1_cursor_1 18 rfl rfl)
theorem dX1_cursor_43 : decode cX1_cursor 43 = .ok (.invokevirtual 233, 3) := dk_182 0 233 (dk_at dksX1_cursor_1 19 rfl rfl)
theorem dX1_cursor_46 : decode cX1_cursor 46 = .ok (.istore_n 3, 1) := dk_62 (dk_at dksX1_cursor_1 22 rfl rfl)
theorem dX1_cursor_47 : decode cX1_cursor 47 = .ok (.aload_n 0, 1) := dk_42 (dk_at dksX1_cursor_1 23 rfl rfl)
theorem dX1_cursor_48 : decode cX1_cursor 48 = .ok (.bipush 9, 2) := dk_16 9 (dk_at dksX1_cursor_2 0 rfl rfl)
theorem dX1_cursor_50 : decode cX1_cursor 50 = .ok (.invokevirtual 282, 3) := dk_182 1 26 (dk_at dksX1_cursor_2 2 rfl rfl)
theorem dX1_cursor_53 : decode cX1_cursor 53 = .ok (.checkcast 204, 3) := dk_192 0 204 (dk_at dksX1_cursor_2 5 rfl rfl)
theorem dX1_cursor_56 : decode cX1_cursor 56 = .ok (.astore 4, 2) := dk_58 4 (dk_at dksX1_cursor_2 8 rfl rfl)
theorem dX1_cursor_58 : decode cX1_cursor 58 = .ok (.aload 4, 2) := dk_25 4 (dk_at dksX1_cursor_2 10 rfl rfl)
theorem dX1_cursor_60 : decode cX1_cursor 60 = .ok (.aload_n 2, 1) := dk_44 (dk_at dksX1_cursor_2 12 rfl rfl)
theorem dX1_cursor_61 : decode cX1_cursor 61 = .ok (.invokevirtual 457, 3) := dk_182 1 201 (dk_at dksX1_cursor_2 13 rfl rfl)
theorem dX1_cursor_64 : decode cX1_cursor 64 = .ok (.aload_n 0, 1) := dk_42 (dk_at dksX1_cursor_2 16 rfl rfl)
theorem dX1_cursor_65 : decode cX1_cursor 65 = .ok (.aload 4, 2) := dk_25 4 (dk_at dksX1_cursor_2 17 rfl rfl)
theorem dX1_cursor_67 : decode cX1_cursor 67 = .ok (.iload_n 1, 1) := dk_27 (dk_at dksX1_cursor_2 19 rfl rfl)
theorem dX1_cursor_68 : decode cX1_cursor 68 = .ok (.invokevirtual 288, 3) := dk_182 1 32 (dk_at dksX1_cursor_2 20 rfl rfl)
theorem dX1_cursor_71 : decode cX1_cursor 71 = .ok (.ireturn, 1) := dk_172 (dk_at dksX1_cursor_2 23 rfl rfl)
abbrev cX1_move : ByteArray := prog_1_method_42_code
def yX1_move : MethodName := ⟨RX1, "move", "(III)J"⟩
def dkwX1_move_1 : List UInt8 := [167, 0, 4, 3, 184, 0, 146, 25, 4, 28, 29, 182, 1, 204, 173]
abbrev dktX1_move_1 : List UInt8 := dkwX1_move_1 ++ []
def dkwX1_move_0 : List UInt8 := [42, 27, 16, 9, 182, 0, 170, 192, 0, 204, 58, 4, 28, 155, 0, 13, 28, 16, 8, 163, 0, 7, 4]
abbrev dktX1_move_0 : List UInt8 := dkwX1_move_0 ++ dktX1_move_1
theorem dksX1_move_0 : cX1_move.data.toList.drop 0 = dktX1_move_0 := by decide +kernel
theorem dksX1_move_1 : cX1_move.data.toList.drop 23 = dktX1_move_1 := dk_seg dksX1_move_0 23 rfl rfl
theorem dX1_move_0 : decode cX1_move 0 = .ok (.aload_n 0, 1) := dk_42 (dk_at dksX1_move_0 0 rfl rfl)
theorem dX1_move_1 : decode cX1_move 1 = .ok (.iload_n 1, 1) := dk_27 (dk_at dksX1_move_0 1 rfl rfl)
theorem dX1_move_2 : decode cX1_move 2 = .ok (.bipush 9, 2) := dk_16 9 (dk_at dksX1_move_0 2 rfl rfl)
theorem dX1_move_4 : decode cX1_move 4 = .ok (.invokevirtual 170, 3) := dk_182 0 170 (dk_at dksX1_move_0 4 rfl rfl)
theorem dX1_move_7 : decode cX1_move 7 = .ok (.checkcast 204, 3) := dk_192 0 204 (dk_at dksX1_move_0 7 rfl rfl)
theorem dX1_move_10 : decode cX1_move 10 = .ok (.astore 4, 2) := dk_58 4 (dk_at dksX1_move_0 10 rfl rfl)
theorem dX1_move_12 : decode cX1_move 12 = .ok (.iload_n 2, 1) := dk_28 (dk_at dksX1_move_0 12 rfl rfl)
theorem dX1_move_13 : decode cX1_move 13 = .ok (.ifCond .lt 13, 3) := dk_155 0 13 (dk_at dksX1_move_0 13 rfl rfl)
theorem dX1_move_16 : decode cX1_move 16 = .ok (.iload_n 2, 1) := dk_28 (dk_at dksX1_move_0 16 rfl rfl)
theorem dX1_move_17 : decode cX1_move 17 = .ok (.bipush 8, 2) := dk_16 8 (dk_at dksX1_move_0 17 rfl rfl)
theorem dX1_move_19 : decode cX1_move 19 = .ok (.if_icmp .gt 7, 3) := dk_163 0 7 (dk_at dksX1_move_0 19 rfl rfl)
theorem dX1_move_22 : decode cX1_move 22 = .ok (.iconst 1, 1) := dk_4 (dk_at dksX1_move_0 22 rfl rfl)
theorem dX1_move_23 : decode cX1_move 23 = .ok (.goto 4, 3) := dk_167 0 4 (dk_at dksX1_move_1 0 rfl rfl)
theorem dX1_move_26 : decode cX1_move 26 = .ok (.iconst 0, 1) := dk_3 (dk_at dksX1_move_1 3 rfl rfl)
theorem dX1_move_27 : decode cX1_move 27 = .ok (.invokestatic 146, 3) := dk_184 0 146 (dk_at dksX1_move_1 4 rfl rfl)
theorem dX1_move_30 : decode cX1_move 30 = .ok (.aload 4, 2) := dk_25 4 (dk_at dksX1_move_1 7 rfl rfl)
theorem dX1_move_32 : decode cX1_move 32 = .ok (.iload_n 2, 1) := dk_28 (dk_at dksX1_move_1 9 rfl rfl)
theorem dX1_move_33 : decode cX1_move 33 = .ok (.iload_n 3, 1) := dk_29 (dk_at dksX1_move_1 10 rfl rfl)
theorem dX1_move_34 : decode cX1_move 34 = .ok (.invokevirtual 460, 3) := dk_182 1 204 (dk_at dksX1_move_1 11 rfl rfl)
theorem dX1_move_37 : decode cX1_move 37 = .ok (.lreturn, 1) := dk_173 (dk_at dksX1_move_1 14 rfl rfl)
abbrev cX1_heap : ByteArray := prog_1_method_43_code
def yX1_heap : MethodName := ⟨RX1, "heap", "(III)J"⟩
def dkwX1_heap_3 : List UInt8 := [25, 5, 182, 1, 62, 25, 4, 25, 5, 182, 1, 206, 173]
abbrev dktX1_heap_3 : List UInt8 := dkwX1_heap_3 ++ []
def dkwX1_heap_2 : List UInt8 := [163, 0, 7, 4, 167, 0, 4, 3, 184, 0, 146, 25, 5, 199, 0, 11, 25, 4, 28, 29, 182, 1, 205, 173]
abbrev dktX1_heap_2 : List UInt8 := dkwX1_heap_2 ++ dktX1_heap_3
def dkwX1_heap_1 : List UInt8 := [16, 7, 160, 0, 11, 42, 29, 182, 1, 58, 167, 0, 4, 1, 58, 5, 28, 155, 0, 13, 28, 16, 7]
abbrev dktX1_heap_1 : List UInt8 := dkwX1_heap_1 ++ dktX1_heap_2
def dkwX1_heap_0 : List UInt8 := [28, 16, 7, 160, 0, 9, 42, 27, 29, 182, 1, 55, 42, 27, 8, 182, 0, 170, 192, 0, 194, 58, 4, 28]
abbrev dktX1_heap_0 : List UInt8 := dkwX1_heap_0 ++ dktX1_heap_1
theorem dksX1_heap_0 : cX1_heap.data.toList.drop 0 = dktX1_heap_0 := by decide +kernel
theorem dksX1_heap_1 : cX1_heap.data.toList.drop 24 = dktX1_heap_1 := dk_seg dksX1_heap_0 24 rfl rfl
theorem dksX1_heap_2 : cX1_heap.data.toList.drop 47 = dktX1_heap_2 := dk_seg dksX1_heap_1 23 rfl rfl
theorem dksX1_heap_3 : cX1_heap.data.toList.drop 71 = dktX1_heap_3 := dk_seg dksX1_heap_2 24 rfl rfl
theorem dX1_heap_0 : decode cX1_heap 0 = .ok (.iload_n 2, 1) := dk_28 (dk_at dksX1_heap_0 0 rfl rfl)
theorem dX1_heap_1 : decode cX1_heap 1 = .ok (.bipush 7, 2) := dk_16 7 (dk_at dksX1_heap_0 1 rfl rfl)
theorem dX1_heap_3 : decode cX1_heap 3 = .ok (.if_icmp .ne 9, 3) := dk_160 0 9 (dk_at dksX1_heap_0 3 rfl rfl)
theorem dX1_heap_6 : decode cX1_heap 6 = .ok (.aload_n 0, 1) := dk_42 (dk_at dksX1_heap_0 6 rfl rfl)
theorem dX1_heap_7 : decode cX1_heap 7 = .ok (.iload_n 1, 1) := dk_27 (dk_at dksX1_heap_0 7 rfl rfl)
theorem dX1_heap_8 : decode cX1_heap 8 = .ok (.iload_n 3, 1) := dk_29 (dk_at dksX1_heap_0 8 rfl rfl)
theorem dX1_heap_9 : decode cX1_heap 9 = .ok (.invokevirtual 311, 3) := dk_182 1 55 (dk_at dksX1_heap_0 9 rfl rfl)
theorem dX1_heap_12 : decode cX1_heap 12 = .ok (.aload_n 0, 1) := dk_42 (dk_at dksX1_heap_0 12 rfl rfl)
theorem dX1_heap_13 : decode cX1_heap 13 = .ok (.iload_n 1, 1) := dk_27 (dk_at dksX1_heap_0 13 rfl rfl)
theorem dX1_heap_14 : decode cX1_heap 14 = .ok (.iconst 5, 1) := dk_8 (dk_at dksX1_heap_0 14 rfl rfl)
theorem dX1_heap_15 : decode cX1_heap 15 = .ok (.invokevirtual 170, 3) := dk_182 0 170 (dk_at dksX1_heap_0 15 rfl rfl)
theorem dX1_heap_18 : decode cX1_heap 18 = .ok (.checkcast 194, 3) := dk_192 0 194 (dk_at dksX1_heap_0 18 rfl rfl)
theorem dX1_heap_21 : decode cX1_heap 21 = .ok (.astore 4, 2) := dk_58 4 (dk_at dksX1_heap_0 21 rfl rfl)
theorem dX1_heap_23 : decode cX1_heap 23 = .ok (.iload_n 2, 1) := dk_28 (dk_at dksX1_heap_0 23 rfl rfl)
theorem dX1_heap_24 : decode cX1_heap 24 = .ok (.bipush 7, 2) := dk_16 7 (dk_at dksX1_heap_1 0 rfl rfl)
theorem dX1_heap_26 : decode cX1_heap 26 = .ok (.if_icmp .ne 11, 3) := dk_160 0 11 (dk_at dksX1_heap_1 2 rfl rfl)
theorem dX1_heap_29 : decode cX1_heap 29 = .ok (.aload_n 0, 1) := dk_42 (dk_at dksX1_heap_1 5 rfl rfl)
theorem dX1_heap_30 : decode cX1_heap 30 = .ok (.iload_n 3, 1) := dk_29 (dk_at dksX1_heap_1 6 rfl rfl)
theorem dX1_heap_31 : decode cX1_heap 31 = .ok (.invokevirtual 314, 3) := dk_182 1 58 (dk_at dksX1_heap_1 7 rfl rfl)
theorem dX1_heap_34 : decode cX1_heap 34 = .ok (.goto 4, 3) := dk_167 0 4 (dk_at dksX1_heap_1 10 rfl rfl)
theorem dX1_heap_37 : decode cX1_heap 37 = .ok (.aconst_null, 1) := dk_1 (dk_at dksX1_heap_1 13 rfl rfl)
theorem dX1_heap_38 : decode cX1_heap 38 = .ok (.astore 5, 2) := dk_58 5 (dk_at dksX1_heap_1 14 rfl rfl)
theorem dX1_heap_40 : decode cX1_heap 40 = .ok (.iload_n 2, 1) := dk_28 (dk_at dksX1_heap_1 16 rfl rfl)
theorem dX1_heap_41 : decode cX1_heap 41 = .ok (.ifCond .lt 13, 3) := dk_155 0 13 (dk_at dksX1_heap_1 17 rfl rfl)
theorem dX1_heap_44 : decode cX1_heap 44 = .ok (.iload_n 2, 1) := dk_28 (dk_at dksX1_heap_1 20 rfl rfl)
theorem dX1_heap_45 : decode cX1_heap 45 = .ok (.bipush 7, 2) := dk_16 7 (dk_at dksX1_heap_1 21 rfl rfl)
theorem dX1_heap_47 : decode cX1_heap 47 = .ok (.if_icmp .gt 7, 3) := dk_163 0 7 (dk_at dksX1_heap_2 0 rfl rfl)
theorem dX1_heap_50 : decode cX1_heap 50 = .ok (.iconst 1, 1) := dk_4 (dk_at dksX1_heap_2 3 rfl rfl)
theorem dX1_heap_51 : decode cX1_heap 51 = .ok (.goto 4, 3) := dk_167 0 4 (dk_at dksX1_heap_2 4 rfl rfl)
theorem dX1_heap_54 : decode cX1_heap 54 = .ok (.iconst 0, 1) := dk_3 (dk_at dksX1_heap_2 7 rfl rfl)
theorem dX1_heap_55 : decode cX1_heap 55 = .ok (.invokestatic 146, 3) := dk_184 0 146 (dk_at dksX1_heap_2 8 rfl rfl)
theorem dX1_heap_58 : decode cX1_heap 58 = .ok (.aload 5, 2) := dk_25 5 (dk_at dksX1_heap_2 11 rfl rfl)
theorem dX1_heap_60 : decode cX1_heap 60 = .ok (.ifnonnull 11, 3) := dk_199 0 11 (dk_at dksX1_heap_2 13 rfl rfl)
theorem dX1_heap_63 : decode cX1_heap 63 = .ok (.aload 4, 2) := dk_25 4 (dk_at dksX1_heap_2 16 rfl rfl)
theorem dX1_heap_65 : decode cX1_heap 65 = .ok (.iload_n 2, 1) := dk_28 (dk_at dksX1_heap_2 18 rfl rfl)
theorem dX1_heap_66 : decode cX1_heap 66 = .ok (.iload_n 3, 1) := dk_29 (dk_at dksX1_heap_2 19 rfl rfl)
theorem dX1_heap_67 : decode cX1_heap 67 = .ok (.invokevirtual 461, 3) := dk_182 1 205 (dk_at dksX1_heap_2 20 rfl rfl)
theorem dX1_heap_70 : decode cX1_heap 70 = .ok (.lreturn, 1) := dk_173 (dk_at dksX1_heap_2 23 rfl rfl)
theorem dX1_heap_71 : decode cX1_heap 71 = .ok (.aload 5, 2) := dk_25 5 (dk_at dksX1_heap_3 0 rfl rfl)
theorem dX1_heap_73 : decode cX1_heap 73 = .ok (.invokevirtual 318, 3) := dk_182 1 62 (dk_at dksX1_heap_3 2 rfl rfl)
theorem dX1_heap_76 : decode cX1_heap 76 = .ok (.aload 4, 2) := dk_25 4 (dk_at dksX1_heap_3 5 rfl rfl)
theorem dX1_heap_78 : decode cX1_heap 78 = .ok (.aload 5, 2) := dk_25 5 (dk_at dksX1_heap_3 7 rfl rfl)
theorem dX1_heap_80 : decode cX1_heap 80 = .ok (.invokevirtual 462, 3) := dk_182 1 206 (dk_at dksX1_heap_3 9 rfl rfl)
theorem dX1_heap_83 : decode cX1_heap 83 = .ok (.lreturn, 1) := dk_173 (dk_at dksX1_heap_3 12 rfl rfl)
abbrev cX1_bits : ByteArray := prog_1_method_44_code
def yX1_bits : MethodName := ⟨RX1, "bits", "(IIII)J"⟩
def dkwX1_bits_6 : List UInt8 := [25, 5, 28, 25, 6, 182, 1, 219, 133, 173]
abbrev dktX1_bits_6 : List UInt8 := dkwX1_bits_6 ++ []
def dkwX1_bits_5 : List UInt8 := [21, 4, 182, 1, 212, 173, 28, 16, 17, 162, 0, 15, 25, 5, 28, 25, 6, 182, 1, 215, 133, 167, 0, 12]
abbrev dktX1_bits_5 : List UInt8 := dkwX1_bits_5 ++ dktX1_bits_6
def dkwX1_bits_4 : List UInt8 := [29, 16, 63, 163, 0, 7, 4, 167, 0, 4, 3, 184, 0, 146, 25, 6, 199, 0, 13, 25, 5, 28, 29]
abbrev dktX1_bits_4 : List UInt8 := dkwX1_bits_4 ++ dktX1_bits_5
def dkwX1_bits_3 : List UInt8 := [28, 184, 1, 209, 153, 0, 10, 29, 17, 16, 0, 162, 0, 23, 28, 16, 19, 160, 0, 13, 29, 155, 0, 13]
abbrev dktX1_bits_3 : List UInt8 := dkwX1_bits_3 ++ dktX1_bits_4
def dkwX1_bits_2 : List UInt8 := [16, 6, 182, 0, 170, 192, 0, 197, 167, 0, 4, 1, 58, 6, 28, 155, 0, 43, 28, 16, 19, 163, 0, 37]
abbrev dktX1_bits_2 : List UInt8 := dkwX1_bits_2 ++ dktX1_bits_3
def dkwX1_bits_1 : List UInt8 := [182, 0, 170, 192, 0, 197, 58, 5, 28, 16, 13, 161, 0, 23, 28, 16, 18, 163, 0, 17, 42, 21, 4]
abbrev dktX1_bits_1 : List UInt8 := dkwX1_bits_1 ++ dktX1_bits_2
def dkwX1_bits_0 : List UInt8 := [28, 16, 13, 161, 0, 16, 28, 16, 18, 163, 0, 10, 42, 27, 21, 4, 182, 1, 55, 42, 27, 16, 6]
abbrev dktX1_bits_0 : List UInt8 := dkwX1_bits_0 ++ dktX1_bits_1
theorem dksX1_bits_0 : cX1_bits.data.toList.drop 0 = dktX1_bits_0 := by decide +kernel
theorem dksX1_bits_1 : cX1_bits.data.toList.drop 23 = dktX1_bits_1 := dk_seg dksX1_bits_0 23 rfl rfl
theorem dksX1_bits_2 : cX1_bits.data.toList.drop 46 = dktX1_bits_2 := dk_seg dksX1_bits_1 23 rfl rfl
theorem dksX1_bits_3 : cX1_bits.data.toList.drop 70 = dktX1_bits_3 := dk_seg dksX1_bits_2 24 rfl rfl
theorem dksX1_bits_4 : cX1_bits.data.toList.drop 94 = dktX1_bits_4 := dk_seg dksX1_bits_3 24 rfl rfl
theorem dksX1_bits_5 : cX1_bits.data.toList.drop 117 = dktX1_bits_5 := dk_seg dksX1_bits_4 23 rfl rfl
theorem dksX1_bits_6 : cX1_bits.data.toList.drop 141 = dktX1_bits_6 := dk_seg dksX1_bits_5 24 rfl rfl
theorem dX1_bits_0 : decode cX1_bits 0 = .ok (.iload_n 2, 1) := dk_28 (dk_at dksX1_bits_0 0 rfl rfl)
theorem dX1_bits_1 : decode cX1_bits 1 = .ok (.bipush 13, 2) := dk_16 13 (dk_at dksX1_bits_0 1 rfl rfl)
theorem dX1_bits_3 : decode cX1_bits 3 = .ok (.if_icmp .lt 16, 3) := dk_161 0 16 (dk_at dksX1_bits_0 3 rfl rfl)
theorem dX1_bits_6 : decode cX1_bits 6 = .ok (.iload_n 2, 1) := dk_28 (dk_at dksX1_bits_0 6 rfl rfl)
theorem dX1_bits_7 : decode cX1_bits 7 = .ok (.bipush 18, 2) := dk_16 18 (dk_at dksX1_bits_0 7 rfl rfl)
theorem dX1_bits_9 : decode cX1_bits 9 = .ok (.if_icmp .gt 10, 3) := dk_163 0 10 (dk_at dksX1_bits_0 9 rfl rfl)
theorem dX1_bits_12 : decode cX1_bits 12 = .ok (.aload_n 0, 1) := dk_42 (dk_at dksX1_bits_0 12 rfl rfl)
theorem dX1_bits_13 : decode cX1_bits 13 = .ok (.iload_n 1, 1) := dk_27 (dk_at dksX1_bits_0 13 rfl rfl)
theorem dX1_bits_14 : decode cX1_bits 14 = .ok (.iload 4, 2) := dk_21 4 (dk_at dksX1_bits_0 14 rfl rfl)
theorem dX1_bits_16 : decode cX1_bits 16 = .ok (.invokevirtual 311, 3) := dk_182 1 55 (dk_at dksX1_bits_0 16 rfl rfl)
theorem dX1_bits_19 : decode cX1_bits 19 = .ok (.aload_n 0, 1) := dk_42 (dk_at dksX1_bits_0 19 rfl rfl)
theorem dX1_bits_20 : decode cX1_bits 20 = .ok (.iload_n 1, 1) := dk_27 (dk_at dksX1_bits_0 20 rfl rfl)
theorem dX1_bits_21 : decode cX1_bits 21 = .ok (.bipush 6, 2) := dk_16 6 (dk_at dksX1_bits_0 21 rfl rfl)
theorem dX1_bits_23 : decode cX1_bits 23 = .ok (.invokevirtual 170, 3) := dk_182 0 170 (dk_at dksX1_bits_1 0 rfl rfl)
theorem dX1_bits_26 : decode cX1_bits 26 = .ok (.checkcast 197, 3) := dk_192 0 197 (dk_at dksX1_bits_1 3 rfl rfl)
theorem dX1_bits_29 : decode cX1_bits 29 = .ok (.astore 5, 2) := dk_58 5 (dk_at dksX1_bits_1 6 rfl rfl)
theorem dX1_bits_31 : decode cX1_bits 31 = .ok (.iload_n 2, 1) := dk_28 (dk_at dksX1_bits_1 8 rfl rfl)
theorem dX1_bits_32 : decode cX1_bits 32 = .ok (.bipush 13, 2) := dk_16 13 (dk_at dksX1_bits_1 9 rfl rfl)
theorem dX1_bits_34 : decode cX1_bits 34 = .ok (.if_icmp .lt 23, 3) := dk_161 0 23 (dk_at dksX1_bits_1 11 rfl rfl)
theorem dX1_bits_37 : decode cX1_bits 37 = .ok (.iload_n 2, 1) := dk_28 (dk_at dksX1_bits_1 14 rfl rfl)
theorem dX1_bits_38 : decode cX1_bits 38 = .ok (.bipush 18, 2) := dk_16 18 (dk_at dksX1_bits_1 15 rfl rfl)
theorem dX1_bits_40 : decode cX1_bits 40 = .ok (.if_icmp .gt 17, 3) := dk_163 0 17 (dk_at dksX1_bits_1 17 rfl rfl)
theorem dX1_bits_43 : decode cX1_bits 43 = .ok (.aload_n 0, 1) := dk_42 (dk_at dksX1_bits_1 20 rfl rfl)
theorem dX1_bits_44 : decode cX1_bits 44 = .ok (.iload 4, 2) := dk_21 4 (dk_at dksX1_bits_1 21 rfl rfl)
theorem dX1_bits_46 : decode cX1_bits 46 = .ok (.bipush 6, 2) := dk_16 6 (dk_at dksX1_bits_2 0 rfl rfl)
theorem dX1_bits_48 : decode cX1_bits 48 = .ok (.invokevirtual 170, 3) := dk_182 0 170 (dk_at dksX1_bits_2 2 rfl rfl)
theorem dX1_bits_51 : decode cX1_bits 51 = .ok (.checkcast 197, 3) := dk_192 0 197 (dk_at dksX1_bits_2 5 rfl rfl)
theorem dX1_bits_54 : decode cX1_bits 54 = .ok (.goto 4, 3) := dk_167 0 4 (dk_at dksX1_bits_2 8 rfl rfl)
theorem dX1_bits_57 : decode cX1_bits 57 = .ok (.aconst_null, 1) := dk_1 (dk_at dksX1_bits_2 11 rfl rfl)
theorem dX1_bits_58 : decode cX1_bits 58 = .ok (.astore 6, 2) := dk_58 6 (dk_at dksX1_bits_2 12 rfl rfl)
theorem dX1_bits_60 : decode cX1_bits 60 = .ok (.iload_n 2, 1) := dk_28 (dk_at dksX1_bits_2 14 rfl rfl)
theorem dX1_bits_61 : decode cX1_bits 61 = .ok (.ifCond .lt 43, 3) := dk_155 0 43 (dk_at dksX1_bits_2 15 rfl rfl)
theorem dX1_bits_64 : decode cX1_bits 64 = .ok (.iload_n 2, 1) := dk_28 (dk_at dksX1_bits_2 18 rfl rfl)
theorem dX1_bits_65 : decode cX1_bits 65 = .ok (.bipush 19, 2) := dk_16 19 (dk_at dksX1_bits_2 19 rfl rfl)
theorem dX1_bits_67 : decode cX1_bits 67 = .ok (.if_icmp .gt 37, 3) := dk_163 0 37 (dk_at dksX1_bits_2 21 rfl rfl)
theorem dX1_bits_70 : decode cX1_bits 70 = .ok (.iload_n 2, 1) := dk_28 (dk_at dksX1_bits_3 0 rfl rfl)
theorem dX1_bits_71 : decode cX1_bits 71 = .ok (.invokestatic 465, 3) := dk_184 1 209 (dk_at dksX1_bits_3 1 rfl rfl)
theorem dX1_bits_74 : decode cX1_bits 74 = .ok (.ifCond .eq 10, 3) := dk_153 0 10 (dk_at dksX1_bits_3 4 rfl rfl)
theorem dX1_bits_77 : decode cX1_bits 77 = .ok (.iload_n 3, 1) := dk_29 (dk_at dksX1_bits_3 7 rfl rfl)
theorem dX1_bits_78 : decode cX1_bits 78 = .ok (.sipush 4096, 3) := dk_17 16 0 (dk_at dksX1_bits_3 8 rfl rfl)
theorem dX1_bits_81 : decode cX1_bits 81 = .ok (.if_icmp .ge 23, 3) := dk_162 0 23 (dk_at dksX1_bits_3 11 rfl rfl)
theorem dX1_bits_84 : decode cX1_bits 84 = .ok (.iload_n 2, 1) := dk_28 (dk_at dksX1_bits_3 14 rfl rfl)
theorem dX1_bits_85 : decode cX1_bits 85 = .ok (.bipush 19, 2) := dk_16 19 (dk_at dksX1_bits_3 15 rfl rfl)
theorem dX1_bits_87 : decode cX1_bits 87 = .ok (.if_icmp .ne 13, 3) := dk_160 0 13 (dk_at dksX1_bits_3 17 rfl rfl)
theorem dX1_bits_90 : decode cX1_bits 90 = .ok (.iload_n 3, 1) := dk_29 (dk_at dksX1_bits_3 20 rfl rfl)
theorem dX1_bits_91 : decode cX1_bits 91 = .ok (.ifCond .lt 13, 3) := dk_155 0 13 (dk_at dksX1_bits_3 21 rfl rfl)
theorem dX1_bits_94 : decode cX1_bits 94 = .ok (.iload_n 3, 1) := dk_29 (dk_at dksX1_bits_4 0 rfl rfl)
theorem dX1_bits_95 : decode cX1_bits 95 = .ok (.bipush 63, 2) := dk_16 63 (dk_at dksX1_bits_4 1 rfl rfl)
theorem dX1_bits_97 : decode cX1_bits 97 = .ok (.if_icmp .gt 7, 3) := dk_163 0 7 (dk_at dksX1_bits_4 3 rfl rfl)
theorem dX1_bits_100 : decode cX1_bits 100 = .ok (.iconst 1, 1) := dk_4 (dk_at dksX1_bits_4 6 rfl rfl)
theorem dX1_bits_101 : decode cX1_bits 101 = .ok (.goto 4, 3) := dk_167 0 4 (dk_at dksX1_bits_4 7 rfl rfl)
theorem dX1_bits_104 : decode cX1_bits 104 = .ok (.iconst 0, 1) := dk_3 (dk_at dksX1_bits_4 10 rfl rfl)
theorem dX1_bits_105 : decode cX1_bits 105 = .ok (.invokestatic 146, 3) := dk_184 0 146 (dk_at dksX1_bits_4 11 rfl rfl)
theorem dX1_bits_108 : decode cX1_bits 108 = .ok (.aload 6, 2) := dk_25 6 (dk_at dksX1_bits_4 14 rfl rfl)
theorem dX1_bits_110 : decode cX1_bits 110 = .ok (.ifnonnull 13, 3) := dk_199 0 13 (dk_at dksX1_bits_4 16 rfl rfl)
theorem dX1_bits_113 : decode cX1_bits 113 = .ok (.aload 5, 2) := dk_25 5 (dk_at dksX1_bits_4 19 rfl rfl)
theorem dX1_bits_115 : decode cX1_bits 115 = .ok (.iload_n 2, 1) := dk_28 (dk_at dksX1_bits_4 21 rfl rfl)
theorem dX1_bits_116 : decode cX1_bits 116 = .ok (.iload_n 3, 1) := dk_29 (dk_at dksX1_bits_4 22 rfl rfl)
theorem dX1_bits_117 : decode cX1_bits 117 = .ok (.iload 4, 2) := dk_21 4 (dk_at dksX1_bits_5 0 rfl rfl)
theorem dX1_bits_119 : decode cX1_bits 119 = .ok (.invokevirtual 468, 3) := dk_182 1 212 (dk_at dksX1_bits_5 2 rfl rfl)
theorem dX1_bits_122 : decode cX1_bits 122 = .ok (.lreturn, 1) := dk_173 (dk_at dksX1_bits_5 5 rfl rfl)
theorem dX1_bits_123 : decode cX1_bits 123 = .ok (.iload_n 2, 1) := dk_28 (dk_at dksX1_bits_5 6 rfl rfl)
theorem dX1_bits_124 : decode cX1_bits 124 = .ok (.bipush 17, 2) := dk_16 17 (dk_at dksX1_bits_5 7 rfl rfl)
theorem dX1_bits_126 : decode cX1_bits 126 = .ok (.if_icmp .ge 15, 3) := dk_162 0 15 (dk_at dksX1_bits_5 9 rfl rfl)
theorem dX1_bits_129 : decode cX1_bits 129 = .ok (.aload 5, 2) := dk_25 5 (dk_at dksX1_bits_5 12 rfl rfl)
theorem dX1_bits_131 : decode cX1_bits 131 = .ok (.iload_n 2, 1) := dk_28 (dk_at dksX1_bits_5 14 rfl rfl)
theorem dX1_bits_132 : decode cX1_bits 132 = .ok (.aload 6, 2) := dk_25 6 (dk_at dksX1_bits_5 15 rfl rfl)
theorem dX1_bits_134 : decode cX1_bits 134 = .ok (.invokevirtual 471, 3) := dk_182 1 215 (dk_at dksX1_bits_5 17 rfl rfl)
theorem dX1_bits_137 : decode cX1_bits 137 = .ok (.i2l, 1) := dk_133 (dk_at dksX1_bits_5 20 rfl rfl)
theorem dX1_bits_138 : decode cX1_bits 138 = .ok (.goto 12, 3) := dk_167 0 12 (dk_at dksX1_bits_5 21 rfl rfl)
theorem dX1_bits_141 : decode cX1_bits 141 = .ok (.aload 5, 2) := dk_25 5 (dk_at dksX1_bits_6 0 rfl rfl)
theorem dX1_bits_143 : decode cX1_bits 143 = .ok (.iload_n 2, 1) := dk_28 (dk_at dksX1_bits_6 2 rfl rfl)
theorem dX1_bits_144 : decode cX1_bits 144 = .ok (.aload 6, 2) := dk_25 6 (dk_at dksX1_bits_6 3 rfl rfl)
theorem dX1_bits_146 : decode cX1_bits 146 = .ok (.invokevirtual 475, 3) := dk_182 1 219 (dk_at dksX1_bits_6 5 rfl rfl)
theorem dX1_bits_149 : decode cX1_bits 149 = .ok (.i2l, 1) := dk_133 (dk_at dksX1_bits_6 8 rfl rfl)
theorem dX1_bits_150 : decode cX1_bits 150 = .ok (.lreturn, 1) := dk_173 (dk_at dksX1_bits_6 9 rfl rfl)
abbrev cX1_item : ByteArray := prog_1_method_45_code
def yX1_item : MethodName := ⟨RX1, "item", "(III)J"⟩
def dkwX1_item_9 : List UInt8 := [21, 7, 182, 1, 158, 133, 173]
abbrev dktX1_item_9 : List UInt8 := dkwX1_item_9 ++ []
def dkwX1_item_8 : List UInt8 := [132, 8, 1, 167, 255, 238, 29, 154, 0, 14, 25, 6, 21, 7, 182, 1, 155, 133, 167, 0, 11, 25, 6]
abbrev dktX1_item_8 : List UInt8 := dkwX1_item_8 ++ dktX1_item_9
def dkwX1_item_7 : List UInt8 := [182, 1, 152, 54, 7, 3, 54, 8, 21, 8, 28, 162, 0, 18, 25, 6, 21, 7, 182, 1, 167, 54, 7]
abbrev dktX1_item_7 : List UInt8 := dkwX1_item_7 ++ dktX1_item_8
def dkwX1_item_6 : List UInt8 := [155, 0, 16, 28, 25, 6, 182, 1, 111, 162, 0, 7, 4, 167, 0, 4, 3, 184, 0, 138, 25, 6]
abbrev dktX1_item_6 : List UInt8 := dkwX1_item_6 ++ dktX1_item_7
def dkwX1_item_5 : List UInt8 := [167, 0, 4, 3, 184, 0, 138, 25, 6, 28, 182, 1, 222, 133, 173, 25, 4, 192, 0, 164, 58, 6, 28]
abbrev dktX1_item_5 : List UInt8 := dkwX1_item_5 ++ dktX1_item_6
def dkwX1_item_4 : List UInt8 := [192, 0, 159, 58, 6, 25, 6, 182, 1, 62, 28, 155, 0, 16, 28, 25, 6, 182, 1, 185, 162, 0, 7, 4]
abbrev dktX1_item_4 : List UInt8 := dkwX1_item_4 ++ dktX1_item_5
def dkwX1_item_3 : List UInt8 := [160, 0, 15, 25, 4, 192, 0, 182, 16, 11, 28, 182, 1, 81, 173, 21, 5, 154, 0, 44, 25, 4]
abbrev dktX1_item_3 : List UInt8 := dkwX1_item_3 ++ dktX1_item_4
def dkwX1_item_2 : List UInt8 := [29, 4, 160, 0, 12, 21, 5, 153, 0, 7, 4, 167, 0, 4, 3, 184, 0, 146, 25, 4, 182, 0, 166, 4]
abbrev dktX1_item_2 : List UInt8 := dkwX1_item_2 ++ dktX1_item_3
def dkwX1_item_1 : List UInt8 := [154, 0, 12, 25, 4, 182, 0, 166, 4, 160, 0, 7, 4, 167, 0, 4, 3, 184, 0, 161, 29, 153, 0, 13]
abbrev dktX1_item_1 : List UInt8 := dkwX1_item_1 ++ dktX1_item_2
def dkwX1_item_0 : List UInt8 := [42, 27, 182, 0, 155, 58, 4, 25, 4, 193, 0, 164, 54, 5, 21, 5, 154, 0, 20, 25, 4, 193, 0, 159]
abbrev dktX1_item_0 : List UInt8 := dkwX1_item_0 ++ dktX1_item_1
theorem dksX1_item_0 : cX1_item.data.toList.drop 0 = dktX1_item_0 := by decide +kernel
theorem dksX1_item_1 : cX1_item.data.toList.drop 24 = dktX1_item_1 := dk_seg dksX1_item_0 24 rfl rfl
theorem dksX1_item_2 : cX1_item.data.toList.drop 48 = dktX1_item_2 := dk_seg dksX1_item_1 24 rfl rfl
theorem dksX1_item_3 : cX1_item.data.toList.drop 72 = dktX1_item_3 := dk_seg dksX1_item_2 24 rfl rfl
theorem dksX1_item_4 : cX1_item.data.toList.drop 94 = dktX1_item_4 := dk_seg dksX1_item_3 22 rfl rfl
theorem dksX1_item_5 : cX1_item.data.toList.drop 118 = dktX1_item_5 := dk_seg dksX1_item_4 24 rfl rfl
theorem dksX1_item_6 : cX1_item.data.toList.drop 141 = dktX1_item_6 := dk_seg dksX1_item_5 23 rfl rfl
theorem dksX1_item_7 : cX1_item.data.toList.drop 163 = dktX1_item_7 := dk_seg dksX1_item_6 22 rfl rfl
theorem dksX1_item_8 : cX1_item.data.toList.drop 186 = dktX1_item_8 := dk_seg dksX1_item_7 23 rfl rfl
theorem dksX1_item_9 : cX1_item.data.toList.drop 209 = dktX1_item_9 := dk_seg dksX1_item_8 23 rfl rfl
theorem dX1_item_0 : decode cX1_item 0 = .ok (.aload_n 0, 1) := dk_42 (dk_at dksX1_item_0 0 rfl rfl)
theorem dX1_item_1 : decode cX1_item 1 = .ok (.iload_n 1, 1) := dk_27 (dk_at dksX1_item_0 1 rfl rfl)
theorem dX1_item_2 : decode cX1_item 2 = .ok (.invokevirtual 155, 3) := dk_182 0 155 (dk_at dksX1_item_0 2 rfl rfl)
theorem dX1_item_5 : decode cX1_item 5 = .ok (.astore 4, 2) := dk_58 4 (dk_at dksX1_item_0 5 rfl rfl)
theorem dX1_item_7 : decode cX1_item 7 = .ok (.aload 4, 2) := dk_25 4 (dk_at dksX1_item_0 7 rfl rfl)
theorem dX1_item_9 : decode cX1_item 9 = .ok (.instanceof 164, 3) := dk_193 0 164 (dk_at dksX1_item_0 9 rfl rfl)
theorem dX1_item_12 : decode cX1_item 12 = .ok (.istore 5, 2) := dk_54 5 (dk_at dksX1_item_0 12 rfl rfl)
theorem dX1_item_14 : decode cX1_item 14 = .ok (.iload 5, 2) := dk_21 5 (dk_at dksX1_item_0 14 rfl rfl)
theorem dX1_item_16 : decode cX1_item 16 = .ok (.ifCond .ne 20, 3) := dk_154 0 20 (dk_at dksX1_item_0 16 rfl rfl)
theorem dX1_item_19 : decode cX1_item 19 = .ok (.aload 4, 2) := dk_25 4 (dk_at dksX1_item_0 19 rfl rfl)
theorem dX1_item_21 : decode cX1_item 21 = .ok (.instanceof 159, 3) := dk_193 0 159 (dk_at dksX1_item_0 21 rfl rfl)
theorem dX1_item_24 : decode cX1_item 24 = .ok (.ifCond .ne 12, 3) := dk_154 0 12 (dk_at dksX1_item_1 0 rfl rfl)
theorem dX1_item_27 : decode cX1_item 27 = .ok (.aload 4, 2) := dk_25 4 (dk_at dksX1_item_1 3 rfl rfl)
theorem dX1_item_29 : decode cX1_item 29 = .ok (.invokevirtual 166, 3) := dk_182 0 166 (dk_at dksX1_item_1 5 rfl rfl)
theorem dX1_item_32 : decode cX1_item 32 = .ok (.iconst 1, 1) := dk_4 (dk_at dksX1_item_1 8 rfl rfl)
theorem dX1_item_33 : decode cX1_item 33 = .ok (.if_icmp .ne 7, 3) := dk_160 0 7 (dk_at dksX1_item_1 9 rfl rfl)
theorem dX1_item_36 : decode cX1_item 36 = .ok (.iconst 1, 1) := dk_4 (dk_at dksX1_item_1 12 rfl rfl)
theorem dX1_item_37 : decode cX1_item 37 = .ok (.goto 4, 3) := dk_167 0 4 (dk_at dksX1_item_1 13 rfl rfl)
theorem dX1_item_40 : decode cX1_item 40 = .ok (.iconst 0, 1) := dk_3 (dk_at dksX1_item_1 16 rfl rfl)
theorem dX1_item_41 : decode cX1_item 41 = .ok (.invokestatic 161, 3) := dk_184 0 161 (dk_at dksX1_item_1 17 rfl rfl)
theorem dX1_item_44 : decode cX1_item 44 = .ok (.iload_n 3, 1) := dk_29 (dk_at dksX1_item_1 20 rfl rfl)
theorem dX1_item_45 : decode cX1_item 45 = .ok (.ifCond .eq 13, 3) := dk_153 0 13 (dk_at dksX1_item_1 21 rfl rfl)
theorem dX1_item_48 : decode cX1_item 48 = .ok (.iload_n 3, 1) := dk_29 (dk_at dksX1_item_2 0 rfl rfl)
theorem dX1_item_49 : decode cX1_item 49 = .ok (.iconst 1, 1) := dk_4 (dk_at dksX1_item_2 1 rfl rfl)
theorem dX1_item_50 : decode cX1_item 50 = .ok (.if_icmp .ne 12, 3) := dk_160 0 12 (dk_at dksX1_item_2 2 rfl rfl)
theorem dX1_item_53 : decode cX1_item 53 = .ok (.iload 5, 2) := dk_21 5 (dk_at dksX1_item_2 5 rfl rfl)
theorem dX1_item_55 : decode cX1_item 55 = .ok (.ifCond .eq 7, 3) := dk_153 0 7 (dk_at dksX1_item_2 7 rfl rfl)
theorem dX1_item_58 : decode cX1_item 58 = .ok (.iconst 1, 1) := dk_4 (dk_at dksX1_item_2 10 rfl rfl)
theorem dX1_item_59 : decode cX1_item 59 = .ok (.goto 4, 3) := dk_167 0 4 (dk_at dksX1_item_2 11 rfl rfl)
theorem dX1_item_62 : decode cX1_item 62 = .ok (.iconst 0, 1) := dk_3 (dk_at dksX1_item_2 14 rfl rfl)
theorem dX1_item_63 : decode cX1_item 63 = .ok (.invokestatic 146, 3) := dk_184 0 146 (dk_at dksX1_item_2 15 rfl rfl)
theorem dX1_item_66 : decode cX1_item 66 = .ok (.aload 4, 2) := dk_25 4 (dk_at dksX1_item_2 18 rfl rfl)
theorem dX1_item_68 : decode cX1_item 68 = .ok (.invokevirtual 166, 3) := dk_182 0 166 (dk_at dksX1_item_2 20 rfl rfl)
theorem dX1_item_71 : decode cX1_item 71 = .ok (.iconst 1, 1) := dk_4 (dk_at dksX1_item_2 23 rfl rfl)
theorem dX1_item_72 : decode cX1_item 72 = .ok (.if_icmp .ne 15, 3) := dk_160 0 15 (dk_at dksX1_item_3 0 rfl rfl)
theorem dX1_item_75 : decode cX1_item 75 = .ok (.aload 4, 2) := dk_25 4 (dk_at dksX1_item_3 3 rfl rfl)
theorem dX1_item_77 : decode cX1_item 77 = .ok (.checkcast 182, 3) := dk_192 0 182 (dk_at dksX1_item_3 5 rfl rfl)
theorem dX1_item_80 : decode cX1_item 80 = .ok (.bipush 11, 2) := dk_16 11 (dk_at dksX1_item_3 8 rfl rfl)
theorem dX1_item_82 : decode cX1_item 82 = .ok (.iload_n 2, 1) := dk_28 (dk_at dksX1_item_3 10 rfl rfl)
theorem dX1_item_83 : decode cX1_item 83 = .ok (.invokevirtual 337, 3) := dk_182 1 81 (dk_at dksX1_item_3 11 rfl rfl)
theorem dX1_item_86 : decode cX1_item 86 = .ok (.lreturn, 1) := dk_173 (dk_at dksX1_item_3 14 rfl rfl)
theorem dX1_item_87 : decode cX1_item 87 = .ok (.iload 5, 2) := dk_21 5 (dk_at dksX1_item_3 15 rfl rfl)
theorem dX1_item_89 : decode cX1_item 89 = .ok (.ifCond .ne 44, 3) := dk_154 0 44 (dk_at dksX1_item_3 17 rfl rfl)
theorem dX1_item_92 : decode cX1_item 92 = .ok (.aload 4, 2) := dk_25 4 (dk_at dksX1_item_3 20 rfl rfl)
theorem dX1_item_94 : decode cX1_item 94 = .ok (.checkcast 159, 3) := dk_192 0 159 (dk_at dksX1_item_4 0 rfl rfl)
theorem dX1_item_97 : decode cX1_item 97 = .ok (.astore 6, 2) := dk_58 6 (dk_at dksX1_item_4 3 rfl rfl)
theorem dX1_item_99 : decode cX1_item 99 = .ok (.aload 6, 2) := dk_25 6 (dk_at dksX1_item_4 5 rfl rfl)
theorem dX1_item_101 : decode cX1_item 101 = .ok (.invokevirtual 318, 3) := dk_182 1 62 (dk_at dksX1_item_4 7 rfl rfl)
theorem dX1_item_104 : decode cX1_item 104 = .ok (.iload_n 2, 1) := dk_28 (dk_at dksX1_item_4 10 rfl rfl)
theorem dX1_item_105 : decode cX1_item 105 = .ok (.ifCond .lt 16, 3) := dk_155 0 16 (dk_at dksX1_item_4 11 rfl rfl)
theorem dX1_item_108 : decode cX1_item 108 = .ok (.iload_n 2, 1) := dk_28 (dk_at dksX1_item_4 14 rfl rfl)
theorem dX1_item_109 : decode cX1_item 109 = .ok (.aload 6, 2) := dk_25 6 (dk_at dksX1_item_4 15 rfl rfl)
theorem dX1_item_111 : decode cX1_item 111 = .ok (.invokevirtual 441, 3) := dk_182 1 185 (dk_at dksX1_item_4 17 rfl rfl)
theorem dX1_item_114 : decode cX1_item 114 = .ok (.if_icmp .ge 7, 3) := dk_162 0 7 (dk_at dksX1_item_4 20 rfl rfl)
theorem dX1_item_117 : decode cX1_item 117 = .ok (.iconst 1, 1) := dk_4 (dk_at dksX1_item_4 23 rfl rfl)
theorem dX1_item_118 : decode cX1_item 118 = .ok (.goto 4, 3) := dk_167 0 4 (dk_at dksX1_item_5 0 rfl rfl)
theorem dX1_item_121 : decode cX1_item 121 = .ok (.iconst 0, 1) := dk_3 (dk_at dksX1_item_5 3 rfl rfl)
theorem dX1_item_122 : decode cX1_item 122 = .ok (.invokestatic 138, 3) := dk_184 0 138 (dk_at dksX1_item_5 4 rfl rfl)
theorem dX1_item_125 : decode cX1_item 125 = .ok (.aload 6, 2) := dk_25 6 (dk_at dksX1_item_5 7 rfl rfl)
theorem dX1_item_127 : decode cX1_item 127 = .ok (.iload_n 2, 1) := dk_28 (dk_at dksX1_item_5 9 rfl rfl)
theorem dX1_item_128 : decode cX1_item 128 = .ok (.invokevirtual 478, 3) := dk_182 1 222 (dk_at dksX1_item_5 10 rfl rfl)
theorem dX1_item_131 : decode cX1_item 131 = .ok (.i2l, 1) := dk_133 (dk_at dksX1_item_5 13 rfl rfl)
theorem dX1_item_132 : decode cX1_item 132 = .ok (.lreturn, 1) := dk_173 (dk_at dksX1_item_5 14 rfl rfl)
theorem dX1_item_133 : decode cX1_item 133 = .ok (.aload 4, 2) := dk_25 4 (dk_at dksX1_item_5 15 rfl rfl)
theorem dX1_item_135 : decode cX1_item 135 = .ok (.checkcast 164, 3) := dk_192 0 164 (dk_at dksX1_item_5 17 rfl rfl)
theorem dX1_item_138 : decode cX1_item 138 = .ok (.astore 6, 2) := dk_58 6 (dk_at dksX1_item_5 20 rfl rfl)
theorem dX1_item_140 : decode cX1_item 140 = .ok (.iload_n 2, 1) := dk_28 (dk_at dksX1_item_5 22 rfl rfl)
theorem dX1_item_141 : decode cX1_item 141 = .ok (.ifCond .lt 16, 3) := dk_155 0 16 (dk_at dksX1_item_6 0 rfl rfl)
theorem dX1_item_144 : decode cX1_item 144 = .ok (.iload_n 2, 1) := dk_28 (dk_at dksX1_item_6 3 rfl rfl)
theorem dX1_item_145 : decode cX1_item 145 = .ok (.aload 6, 2) := dk_25 6 (dk_at dksX1_item_6 4 rfl rfl)
theorem dX1_item_147 : decode cX1_item 147 = .ok (.invokevirtual 367, 3) := dk_182 1 111 (dk_at dksX1_item_6 6 rfl rfl)
theorem dX1_item_150 : decode cX1_item 150 = .ok (.if_icmp .ge 7, 3) := dk_162 0 7 (dk_at dksX1_item_6 9 rfl rfl)
theorem dX1_item_153 : decode cX1_item 153 = .ok (.iconst 1, 1) := dk_4 (dk_at dksX1_item_6 12 rfl rfl)
theorem dX1_item_154 : decode cX1_item 154 = .ok (.goto 4, 3) := dk_167 0 4 (dk_at dksX1_item_6 13 rfl rfl)
theorem dX1_item_157 : decode cX1_item 157 = .ok (.iconst 0, 1) := dk_3 (dk_at dksX1_item_6 16 rfl rfl)
theorem dX1_item_158 : decode cX1_item 158 = .ok (.invokestatic 138, 3) := dk_184 0 138 (dk_at dksX1_item_6 17 rfl rfl)
theorem dX1_item_161 : decode cX1_item 161 = .ok (.aload 6, 2) := dk_25 6 (dk_at dksX1_item_6 20 rfl rfl)
theorem dX1_item_163 : decode cX1_item 163 = .ok (.invokevirtual 408, 3) := dk_182 1 152 (dk_at dksX1_item_7 0 rfl rfl)
theorem dX1_item_166 : decode cX1_item 166 = .ok (.istore 7, 2) := dk_54 7 (dk_at dksX1_item_7 3 rfl rfl)
theorem dX1_item_168 : decode cX1_item 168 = .ok (.iconst 0, 1) := dk_3 (dk_at dksX1_item_7 5 rfl rfl)
theorem dX1_item_169 : decode cX1_item 169 = .ok (.istore 8, 2) := dk_54 8 (dk_at dksX1_item_7 6 rfl rfl)
theorem dX1_item_171 : decode cX1_item 171 = .ok (.iload 8, 2) := dk_21 8 (dk_at dksX1_item_7 8 rfl rfl)
theorem dX1_item_173 : decode cX1_item 173 = .ok (.iload_n 2, 1) := dk_28 (dk_at dksX1_item_7 10 rfl rfl)
theorem dX1_item_174 : decode cX1_item 174 = .ok (.if_icmp .ge 18, 3) := dk_162 0 18 (dk_at dksX1_item_7 11 rfl rfl)
theorem dX1_item_177 : decode cX1_item 177 = .ok (.aload 6, 2) := dk_25 6 (dk_at dksX1_item_7 14 rfl rfl)
theorem dX1_item_179 : decode cX1_item 179 = .ok (.iload 7, 2) := dk_21 7 (dk_at dksX1_item_7 16 rfl rfl)
theorem dX1_item_181 : decode cX1_item 181 = .ok (.invokevirtual 423, 3) := dk_182 1 167 (dk_at dksX1_item_7 18 rfl rfl)
theorem dX1_item_184 : decode cX1_item 184 = .ok (.istore 7, 2) := dk_54 7 (dk_at dksX1_item_7 21 rfl rfl)
theorem dX1_item_186 : decode cX1_item 186 = .ok (.iinc 8 1, 3) := dk_132 8 1 (dk_at dksX1_item_8 0 rfl rfl)
theorem dX1_item_189 : decode cX1_item 189 = .ok (.goto (-18), 3) := dk_167 255 238 (dk_at dksX1_item_8 3 rfl rfl)
theorem dX1_item_192 : decode cX1_item 192 = .ok (.iload_n 3, 1) := dk_29 (dk_at dksX1_item_8 6 rfl rfl)
theorem dX1_item_193 : decode cX1_item 193 = .ok (.ifCond .ne 14, 3) := dk_154 0 14 (dk_at dksX1_item_8 7 rfl rfl)
theorem dX1_item_196 : decode cX1_item 196 = .ok (.aload 6, 2) := dk_25 6 (dk_at dksX1_item_8 10 rfl rfl)
theorem dX1_item_198 : decode cX1_item 198 = .ok (.iload 7, 2) := dk_21 7 (dk_at dksX1_item_8 12 rfl rfl)
theorem dX1_item_200 : decode cX1_item 200 = .ok (.invokevirtual 411, 3) := dk_182 1 155 (dk_at dksX1_item_8 14 rfl rfl)
theorem dX1_item_203 : decode cX1_item 203 = .ok (.i2l, 1) := dk_133 (dk_at dksX1_item_8 17 rfl rfl)
theorem dX1_item_204 : decode cX1_item 204 = .ok (.goto 11, 3) := dk_167 0 11 (dk_at dksX1_item_8 18 rfl rfl)
theorem dX1_item_207 : decode cX1_item 207 = .ok (.aload 6, 2) := dk_25 6 (dk_at dksX1_item_8 21 rfl rfl)
theorem dX1_item_209 : decode cX1_item 209 = .ok (.iload 7, 2) := dk_21 7 (dk_at dksX1_item_9 0 rfl rfl)
theorem dX1_item_211 : decode cX1_item 211 = .ok (.invokevirtual 414, 3) := dk_182 1 158 (dk_at dksX1_item_9 2 rfl rfl)
theorem dX1_item_214 : decode cX1_item 214 = .ok (.i2l, 1) := dk_133 (dk_at dksX1_item_9 5 rfl rfl)
theorem dX1_item_215 : decode cX1_item 215 = .ok (.lreturn, 1) := dk_173 (dk_at dksX1_item_9 6 rfl rfl)
abbrev cX1_text : ByteArray := prog_1_method_47_code
def yX1_text : MethodName := ⟨RX1, "text", "(IIII)I"⟩
def dkwX1_text_5 : List UInt8 := [21, 5, 42, 180, 0, 38, 182, 1, 237, 172, 58, 8, 42, 25, 8, 182, 1, 240, 191]
abbrev dktX1_text_5 : List UInt8 := dkwX1_text_5 ++ []
def dkwX1_text_4 : List UInt8 := [25, 7, 198, 0, 11, 25, 6, 25, 7, 182, 1, 234, 172, 25, 6, 28, 29, 21, 4, 42, 180, 0, 31]
abbrev dktX1_text_4 : List UInt8 := dkwX1_text_4 ++ dktX1_text_5
def dkwX1_text_3 : List UInt8 := [16, 17, 160, 0, 14, 29, 155, 0, 14, 29, 17, 15, 160, 163, 0, 7, 4, 167, 0, 4, 3, 184, 0, 146]
abbrev dktX1_text_3 : List UInt8 := dkwX1_text_3 ++ dktX1_text_4
def dkwX1_text_2 : List UInt8 := [167, 0, 4, 1, 58, 7, 28, 155, 0, 36, 28, 16, 20, 163, 0, 30, 28, 16, 12, 159, 0, 9, 28]
abbrev dktX1_text_2 : List UInt8 := dkwX1_text_2 ++ dktX1_text_3
def dkwX1_text_1 : List UInt8 := [27, 29, 182, 1, 55, 42, 27, 182, 1, 230, 58, 6, 28, 16, 9, 160, 0, 11, 42, 29, 182, 1, 230]
abbrev dktX1_text_1 : List UInt8 := dkwX1_text_1 ++ dktX1_text_2
def dkwX1_text_0 : List UInt8 := [28, 184, 1, 224, 153, 0, 10, 42, 182, 1, 227, 167, 0, 4, 3, 54, 5, 28, 16, 9, 160, 0, 9, 42]
abbrev dktX1_text_0 : List UInt8 := dkwX1_text_0 ++ dktX1_text_1
theorem dksX1_text_0 : cX1_text.data.toList.drop 0 = dktX1_text_0 := by decide +kernel
theorem dksX1_text_1 : cX1_text.data.toList.drop 24 = dktX1_text_1 := dk_seg dksX1_text_0 24 rfl rfl
theorem dksX1_text_2 : cX1_text.data.toList.drop 47 = dktX1_text_2 := dk_seg dksX1_text_1 23 rfl rfl
theorem dksX1_text_3 : cX1_text.data.toList.drop 70 = dktX1_text_3 := dk_seg dksX1_text_2 23 rfl rfl
theorem dksX1_text_4 : cX1_text.data.toList.drop 94 = dktX1_text_4 := dk_seg dksX1_text_3 24 rfl rfl
theorem dksX1_text_5 : cX1_text.data.toList.drop 117 = dktX1_text_5 := dk_seg dksX1_text_4 23 rfl rfl
theorem dX1_text_0 : decode cX1_text 0 = .ok (.iload_n 2, 1) := dk_28 (dk_at dksX1_text_0 0 rfl rfl)
theorem dX1_text_1 : decode cX1_text 1 = .ok (.invokestatic 480, 3) := dk_184 1 224 (dk_at dksX1_text_0 1 rfl rfl)
theorem dX1_text_4 : decode cX1_text 4 = .ok (.ifCond .eq 10, 3) := dk_153 0 10 (dk_at dksX1_text_0 4 rfl rfl)
theorem dX1_text_7 : decode cX1_text 7 = .ok (.aload_n 0, 1) := dk_42 (dk_at dksX1_text_0 7 rfl rfl)
theorem dX1_text_8 : decode cX1_text 8 = .ok (.invokevirtual 483, 3) := dk_182 1 227 (dk_at dksX1_text_0 8 rfl rfl)
theorem dX1_text_11 : decode cX1_text 11 = .ok (.goto 4, 3) := dk_167 0 4 (dk_at dksX1_text_0 11 rfl rfl)
theorem dX1_text_14 : decode cX1_text 14 = .ok (.iconst 0, 1) := dk_3 (dk_at dksX1_text_0 14 rfl rfl)
theorem dX1_text_15 : decode cX1_text 15 = .ok (.istore 5, 2) := dk_54 5 (dk_at dksX1_text_0 15 rfl rfl)
theorem dX1_text_17 : decode cX1_text 17 = .ok (.iload_n 2, 1) := dk_28 (dk_at dksX1_text_0 17 rfl rfl)
theorem dX1_text_18 : decode cX1_text 18 = .ok (.bipush 9, 2) := dk_16 9 (dk_at dksX1_text_0 18 rfl rfl)
theorem dX1_text_20 : decode cX1_text 20 = .ok (.if_icmp .ne 9, 3) := dk_160 0 9 (dk_at dksX1_text_0 20 rfl rfl)
theorem dX1_text_23 : decode cX1_text 23 = .ok (.aload_n 0, 1) := dk_42 (dk_at dksX1_text_0 23 rfl rfl)
theorem dX1_text_24 : decode cX1_text 24 = .ok (.iload_n 1, 1) := dk_27 (dk_at dksX1_text_1 0 rfl rfl)
theorem dX1_text_25 : decode cX1_text 25 = .ok (.iload_n 3, 1) := dk_29 (dk_at dksX1_text_1 1 rfl rfl)
theorem dX1_text_26 : decode cX1_text 26 = .ok (.invokevirtual 311, 3) := dk_182 1 55 (dk_at dksX1_text_1 2 rfl rfl)
theorem dX1_text_29 : decode cX1_text 29 = .ok (.aload_n 0, 1) := dk_42 (dk_at dksX1_text_1 5 rfl rfl)
theorem dX1_text_30 : decode cX1_text 30 = .ok (.iload_n 1, 1) := dk_27 (dk_at dksX1_text_1 6 rfl rfl)
theorem dX1_text_31 : decode cX1_text 31 = .ok (.invokevirtual 486, 3) := dk_182 1 230 (dk_at dksX1_text_1 7 rfl rfl)
theorem dX1_text_34 : decode cX1_text 34 = .ok (.astore 6, 2) := dk_58 6 (dk_at dksX1_text_1 10 rfl rfl)
theorem dX1_text_36 : decode cX1_text 36 = .ok (.iload_n 2, 1) := dk_28 (dk_at dksX1_text_1 12 rfl rfl)
theorem dX1_text_37 : decode cX1_text 37 = .ok (.bipush 9, 2) := dk_16 9 (dk_at dksX1_text_1 13 rfl rfl)
theorem dX1_text_39 : decode cX1_text 39 = .ok (.if_icmp .ne 11, 3) := dk_160 0 11 (dk_at dksX1_text_1 15 rfl rfl)
theorem dX1_text_42 : decode cX1_text 42 = .ok (.aload_n 0, 1) := dk_42 (dk_at dksX1_text_1 18 rfl rfl)
theorem dX1_text_43 : decode cX1_text 43 = .ok (.iload_n 3, 1) := dk_29 (dk_at dksX1_text_1 19 rfl rfl)
theorem dX1_text_44 : decode cX1_text 44 = .ok (.invokevirtual 486, 3) := dk_182 1 230 (dk_at dksX1_text_1 20 rfl rfl)
theorem dX1_text_47 : decode cX1_text 47 = .ok (.goto 4, 3) := dk_167 0 4 (dk_at dksX1_text_2 0 rfl rfl)
theorem dX1_text_50 : decode cX1_text 50 = .ok (.aconst_null, 1) := dk_1 (dk_at dksX1_text_2 3 rfl rfl)
theorem dX1_text_51 : decode cX1_text 51 = .ok (.astore 7, 2) := dk_58 7 (dk_at dksX1_text_2 4 rfl rfl)
theorem dX1_text_53 : decode cX1_text 53 = .ok (.iload_n 2, 1) := dk_28 (dk_at dksX1_text_2 6 rfl rfl)
theorem dX1_text_54 : decode cX1_text 54 = .ok (.ifCond .lt 36, 3) := dk_155 0 36 (dk_at dksX1_text_2 7 rfl rfl)
theorem dX1_text_57 : decode cX1_text 57 = .ok (.iload_n 2, 1) := dk_28 (dk_at dksX1_text_2 10 rfl rfl)
theorem dX1_text_58 : decode cX1_text 58 = .ok (.bipush 20, 2) := dk_16 20 (dk_at dksX1_text_2 11 rfl rfl)
theorem dX1_text_60 : decode cX1_text 60 = .ok (.if_icmp .gt 30, 3) := dk_163 0 30 (dk_at dksX1_text_2 13 rfl rfl)
theorem dX1_text_63 : decode cX1_text 63 = .ok (.iload_n 2, 1) := dk_28 (dk_at dksX1_text_2 16 rfl rfl)
theorem dX1_text_64 : decode cX1_text 64 = .ok (.bipush 12, 2) := dk_16 12 (dk_at dksX1_text_2 17 rfl rfl)
theorem dX1_text_66 : decode cX1_text 66 = .ok (.if_icmp .eq 9, 3) := dk_159 0 9 (dk_at dksX1_text_2 19 rfl rfl)
theorem dX1_text_69 : decode cX1_text 69 = .ok (.iload_n 2, 1) := dk_28 (dk_at dksX1_text_2 22 rfl rfl)
theorem dX1_text_70 : decode cX1_text 70 = .ok (.bipush 17, 2) := dk_16 17 (dk_at dksX1_text_3 0 rfl rfl)
theorem dX1_text_72 : decode cX1_text 72 = .ok (.if_icmp .ne 14, 3) := dk_160 0 14 (dk_at dksX1_text_3 2 rfl rfl)
theorem dX1_text_75 : decode cX1_text 75 = .ok (.iload_n 3, 1) := dk_29 (dk_at dksX1_text_3 5 rfl rfl)
theorem dX1_text_76 : decode cX1_text 76 = .ok (.ifCond .lt 14, 3) := dk_155 0 14 (dk_at dksX1_text_3 6 rfl rfl)
theorem dX1_text_79 : decode cX1_text 79 = .ok (.iload_n 3, 1) := dk_29 (dk_at dksX1_text_3 9 rfl rfl)
theorem dX1_text_80 : decode cX1_text 80 = .ok (.sipush 4000, 3) := dk_17 15 160 (dk_at dksX1_text_3 10 rfl rfl)
theorem dX1_text_83 : decode cX1_text 83 = .ok (.if_icmp .gt 7, 3) := dk_163 0 7 (dk_at dksX1_text_3 13 rfl rfl)
theorem dX1_text_86 : decode cX1_text 86 = .ok (.iconst 1, 1) := dk_4 (dk_at dksX1_text_3 16 rfl rfl)
theorem dX1_text_87 : decode cX1_text 87 = .ok (.goto 4, 3) := dk_167 0 4 (dk_at dksX1_text_3 17 rfl rfl)
theorem dX1_text_90 : decode cX1_text 90 = .ok (.iconst 0, 1) := dk_3 (dk_at dksX1_text_3 20 rfl rfl)
theorem dX1_text_91 : decode cX1_text 91 = .ok (.invokestatic 146, 3) := dk_184 0 146 (dk_at dksX1_text_3 21 rfl rfl)
theorem dX1_text_94 : decode cX1_text 94 = .ok (.aload 7, 2) := dk_25 7 (dk_at dksX1_text_4 0 rfl rfl)
theorem dX1_text_96 : decode cX1_text 96 = .ok (.ifnull 11, 3) := dk_198 0 11 (dk_at dksX1_text_4 2 rfl rfl)
theorem dX1_text_99 : decode cX1_text 99 = .ok (.aload 6, 2) := dk_25 6 (dk_at dksX1_text_4 5 rfl rfl)
theorem dX1_text_101 : decode cX1_text 101 = .ok (.aload 7, 2) := dk_25 7 (dk_at dksX1_text_4 7 rfl rfl)
theorem dX1_text_103 : decode cX1_text 103 = .ok (.invokevirtual 490, 3) := dk_182 1 234 (dk_at dksX1_text_4 9 rfl rfl)
theorem dX1_text_106 : decode cX1_text 106 = .ok (.ireturn, 1) := dk_172 (dk_at dksX1_text_4 12 rfl rfl)
theorem dX1_text_107 : decode cX1_text 107 = .ok (.aload 6, 2) := dk_25 6 (dk_at dksX1_text_4 13 rfl rfl)
theorem dX1_text_109 : decode cX1_text 109 = .ok (.iload_n 2, 1) := dk_28 (dk_at dksX1_text_4 15 rfl rfl)
theorem dX1_text_110 : decode cX1_text 110 = .ok (.iload_n 3, 1) := dk_29 (dk_at dksX1_text_4 16 rfl rfl)
theorem dX1_text_111 : decode cX1_text 111 = .ok (.iload 4, 2) := dk_21 4 (dk_at dksX1_text_4 17 rfl rfl)
theorem dX1_text_113 : decode cX1_text 113 = .ok (.aload_n 0, 1) := dk_42 (dk_at dksX1_text_4 19 rfl rfl)
theorem dX1_text_114 : decode cX1_text 114 = .ok (.getfield 31, 3) := dk_180 0 31 (dk_at dksX1_text_4 20 rfl rfl)
theorem dX1_text_117 : decode cX1_text 117 = .ok (.iload 5, 2) := dk_21 5 (dk_at dksX1_text_5 0 rfl rfl)
theorem dX1_text_119 : decode cX1_text 119 = .ok (.aload_n 0, 1) := dk_42 (dk_at dksX1_text_5 2 rfl rfl)
theorem dX1_text_120 : decode cX1_text 120 = .ok (.getfield 38, 3) := dk_180 0 38 (dk_at dksX1_text_5 3 rfl rfl)
theorem dX1_text_123 : decode cX1_text 123 = .ok (.invokevirtual 493, 3) := dk_182 1 237 (dk_at dksX1_text_5 6 rfl rfl)
theorem dX1_text_126 : decode cX1_text 126 = .ok (.ireturn, 1) := dk_172 (dk_at dksX1_text_5 9 rfl rfl)
theorem dX1_text_127 : decode cX1_text 127 = .ok (.astore 8, 2) := dk_58 8 (dk_at dksX1_text_5 10 rfl rfl)
theorem dX1_text_129 : decode cX1_text 129 = .ok (.aload_n 0, 1) := dk_42 (dk_at dksX1_text_5 12 rfl rfl)
theorem dX1_text_130 : decode cX1_text 130 = .ok (.aload 8, 2) := dk_25 8 (dk_at dksX1_text_5 13 rfl rfl)
theorem dX1_text_132 : decode cX1_text 132 = .ok (.invokevirtual 496, 3) := dk_182 1 240 (dk_at dksX1_text_5 15 rfl rfl)
theorem dX1_text_135 : decode cX1_text 135 = .ok (.athrow, 1) := dk_191 (dk_at dksX1_text_5 18 rfl rfl)
abbrev cX1_readsTape : ByteArray := prog_1_method_46_code
def yX1_readsTape : MethodName := ⟨RX1, "readsTape", "(I)Z"⟩
def dkwX1_readsTape_1 : List UInt8 := [159, 0, 9, 26, 16, 20, 160, 0, 7, 4, 167, 0, 4, 3, 172]
abbrev dktX1_readsTape_1 : List UInt8 := dkwX1_readsTape_1 ++ []
def dkwX1_readsTape_0 : List UInt8 := [26, 153, 0, 31, 26, 4, 159, 0, 26, 26, 6, 159, 0, 21, 26, 16, 7, 159, 0, 15, 26, 16, 8]
abbrev dktX1_readsTape_0 : List UInt8 := dkwX1_readsTape_0 ++ dktX1_readsTape_1
theorem dksX1_readsTape_0 : cX1_readsTape.data.toList.drop 0 = dktX1_readsTape_0 := by decide +kernel
theorem dksX1_readsTape_1 : cX1_readsTape.data.toList.drop 23 = dktX1_readsTape_1 := dk_seg dksX1_readsTape_0 23 rfl rfl
theorem dX1_readsTape_0 : decode cX1_readsTape 0 = .ok (.iload_n 0, 1) := dk_26 (dk_at dksX1_readsTape_0 0 rfl rfl)
theorem dX1_readsTape_1 : decode cX1_readsTape 1 = .ok (.ifCond .eq 31, 3) := dk_153 0 31 (dk_at dksX1_readsTape_0 1 rfl rfl)
theorem dX1_readsTape_4 : decode cX1_readsTape 4 = .ok (.iload_n 0, 1) := dk_26 (dk_at dksX1_readsTape_0 4 rfl rfl)
theorem dX1_readsTape_5 : decode cX1_readsTape 5 = .ok (.iconst 1, 1) := dk_4 (dk_at dksX1_readsTape_0 5 rfl rfl)
theorem dX1_readsTape_6 : decode cX1_readsTape 6 = .ok (.if_icmp .eq 26, 3) := dk_159 0 26 (dk_at dksX1_readsTape_0 6 rfl rfl)
theorem dX1_readsTape_9 : decode cX1_readsTape 9 = .ok (.iload_n 0, 1) := dk_26 (dk_at dksX1_readsTape_0 9 rfl rfl)
theorem dX1_readsTape_10 : decode cX1_readsTape 10 = .ok (.iconst 3, 1) := dk_6 (dk_at dksX1_readsTape_0 10 rfl rfl)
theorem dX1_readsTape_11 : decode cX1_readsTape 11 = .ok (.if_icmp .eq 21, 3) := dk_159 0 21 (dk_at dksX1_readsTape_0 11 rfl rfl)
theorem dX1_readsTape_14 : decode cX1_readsTape 14 = .ok (.iload_n 0, 1) := dk_26 (dk_at dksX1_readsTape_0 14 rfl rfl)
theorem dX1_readsTape_15 : decode cX1_readsTape 15 = .ok (.bipush 7, 2) := dk_16 7 (dk_at dksX1_readsTape_0 15 rfl rfl)
theorem dX1_readsTape_17 : decode cX1_readsTape 17 = .ok (.if_icmp .eq 15, 3) := dk_159 0 15 (dk_at dksX1_readsTape_0 17 rfl rfl)
theorem dX1_readsTape_20 : decode cX1_readsTape 20 = .ok (.iload_n 0, 1) := dk_26 (dk_at dksX1_readsTape_0 20 rfl rfl)
theorem dX1_readsTape_21 : decode cX1_readsTape 21 = .ok (.bipush 8, 2) := dk_16 8 (dk_at dksX1_readsTape_0 21 rfl rfl)
theorem dX1_readsTape_23 : decode cX1_readsTape 23 = .ok (.if_icmp .eq 9, 3) := dk_159 0 9 (dk_at dksX1_readsTape_1 0 rfl rfl)
theorem dX1_readsTape_26 : decode cX1_readsTape 26 = .ok (.iload_n 0, 1) := dk_26 (dk_at dksX1_readsTape_1 3 rfl rfl)
theorem dX1_readsTape_27 : decode cX1_readsTape 27 = .ok (.bipush 20, 2) := dk_16 20 (dk_at dksX1_readsTape_1 4 rfl rfl)
theorem dX1_readsTape_29 : decode cX1_readsTape 29 = .ok (.if_icmp .ne 7, 3) := dk_160 0 7 (dk_at dksX1_readsTape_1 6 rfl rfl)
theorem dX1_readsTape_32 : decode cX1_readsTape 32 = .ok (.iconst 1, 1) := dk_4 (dk_at dksX1_readsTape_1 9 rfl rfl)
theorem dX1_readsTape_33 : decode cX1_readsTape 33 = .ok (.goto 4, 3) := dk_167 0 4 (dk_at dksX1_readsTape_1 10 rfl rfl)
theorem dX1_readsTape_36 : decode cX1_readsTape 36 = .ok (.iconst 0, 1) := dk_3 (dk_at dksX1_readsTape_1 13 rfl rfl)
theorem dX1_readsTape_37 : decode cX1_readsTape 37 = .ok (.ireturn, 1) := dk_172 (dk_at dksX1_readsTape_1 14 rfl rfl)
abbrev cX1_take : ByteArray := prog_1_method_15_code
def yX1_take : MethodName := ⟨RX1, "take", "()I"⟩
def dkwX1_take_0 : List UInt8 := [42, 180, 0, 135, 60, 42, 3, 181, 0, 135, 42, 2, 181, 0, 45, 27, 172]
abbrev dktX1_take_0 : List UInt8 := dkwX1_take_0 ++ []
theorem dksX1_take_0 : cX1_take.data.toList.drop 0 = dktX1_take_0 := by decide +kernel
theorem dX1_take_0 : decode cX1_take 0 = .ok (.aload_n 0, 1) := dk_42 (dk_at dksX1_take_0 0 rfl rfl)
theorem dX1_take_1 : decode cX1_take 1 = .ok (.getfield 135, 3) := dk_180 0 135 (dk_at dksX1_take_0 1 rfl rfl)
theorem dX1_take_4 : decode cX1_take 4 = .ok (.istore_n 1, 1) := dk_60 (dk_at dksX1_take_0 4 rfl rfl)
theorem dX1_take_5 : decode cX1_take 5 = .ok (.aload_n 0, 1) := dk_42 (dk_at dksX1_take_0 5 rfl rfl)
theorem dX1_take_6 : decode cX1_take 6 = .ok (.iconst 0, 1) := dk_3 (dk_at dksX1_take_0 6 rfl rfl)
theorem dX1_take_7 : decode cX1_take 7 = .ok (.putfield 135, 3) := dk_181 0 135 (dk_at dksX1_take_0 7 rfl rfl)
theorem dX1_take_10 : decode cX1_take 10 = .ok (.aload_n 0, 1) := dk_42 (dk_at dksX1_take_0 10 rfl rfl)
theorem dX1_take_11 : decode cX1_take 11 = .ok (.iconst (-1), 1) := dk_2 (dk_at dksX1_take_0 11 rfl rfl)
theorem dX1_take_12 : decode cX1_take 12 = .ok (.putfield 45, 3) := dk_181 0 45 (dk_at dksX1_take_0 12 rfl rfl)
theorem dX1_take_15 : decode cX1_take 15 = .ok (.iload_n 1, 1) := dk_27 (dk_at dksX1_take_0 15 rfl rfl)
theorem dX1_take_16 : decode cX1_take 16 = .ok (.ireturn, 1) := dk_172 (dk_at dksX1_take_0 16 rfl rfl)
abbrev cX1_texts : ByteArray := prog_1_method_22_code
def yX1_texts : MethodName := ⟨RX1, "texts", "(I)LLibraryDesk$TextThing;"⟩
def dkwX1_texts_0 : List UInt8 := [42, 27, 16, 7, 182, 0, 170, 192, 0, 174, 176]
abbrev dktX1_texts_0 : List UInt8 := dkwX1_texts_0 ++ []
theorem dksX1_texts_0 : cX1_texts.data.toList.drop 0 = dktX1_texts_0 := by decide +kernel
theorem dX1_texts_0 : decode cX1_texts 0 = .ok (.aload_n 0, 1) := dk_42 (dk_at dksX1_texts_0 0 rfl rfl)
theorem dX1_texts_1 : decode cX1_texts 1 = .ok (.iload_n 1, 1) := dk_27 (dk_at dksX1_texts_0 1 rfl rfl)
theorem dX1_texts_2 : decode cX1_texts 2 = .ok (.bipush 7, 2) := dk_16 7 (dk_at dksX1_texts_0 2 rfl rfl)
theorem dX1_texts_4 : decode cX1_texts 4 = .ok (.invokevirtual 170, 3) := dk_182 0 170 (dk_at dksX1_texts_0 4 rfl rfl)
theorem dX1_texts_7 : decode cX1_texts 7 = .ok (.checkcast 174, 3) := dk_192 0 174 (dk_at dksX1_texts_0 7 rfl rfl)
theorem dX1_texts_10 : decode cX1_texts 10 = .ok (.areturn, 1) := dk_176 (dk_at dksX1_texts_0 10 rfl rfl)
abbrev cX1_broken : ByteArray := prog_1_method_16_code
def yX1_broken : MethodName := ⟨RX1, "broken", "(LLibraryDesk$Broken;)Ljava/lang/UnsupportedOperationException;"⟩
def dkwX1_broken_0 : List UInt8 := [42, 43, 180, 0, 149, 181, 0, 45, 187, 0, 16, 89, 183, 0, 18, 176]
abbrev dktX1_broken_0 : List UInt8 := dkwX1_broken_0 ++ []
theorem dksX1_broken_0 : cX1_broken.data.toList.drop 0 = dktX1_broken_0 := by decide +kernel
theorem dX1_broken_0 : decode cX1_broken 0 = .ok (.aload_n 0, 1) := dk_42 (dk_at dksX1_broken_0 0 rfl rfl)
theorem dX1_broken_1 : decode cX1_broken 1 = .ok (.aload_n 1, 1) := dk_43 (dk_at dksX1_broken_0 1 rfl rfl)
theorem dX1_broken_2 : decode cX1_broken 2 = .ok (.getfield 149, 3) := dk_180 0 149 (dk_at dksX1_broken_0 2 rfl rfl)
theorem dX1_broken_5 : decode cX1_broken 5 = .ok (.putfield 45, 3) := dk_181 0 45 (dk_at dksX1_broken_0 5 rfl rfl)
theorem dX1_broken_8 : decode cX1_broken 8 = .ok (.new 16, 3) := dk_187 0 16 (dk_at dksX1_broken_0 8 rfl rfl)
theorem dX1_broken_11 : decode cX1_broken 11 = .ok (.dup, 1) := dk_89 (dk_at dksX1_broken_0 11 rfl rfl)
theorem dX1_broken_12 : decode cX1_broken 12 = .ok (.invokespecial 18, 3) := dk_183 0 18 (dk_at dksX1_broken_0 12 rfl rfl)
theorem dX1_broken_15 : decode cX1_broken 15 = .ok (.areturn, 1) := dk_176 (dk_at dksX1_broken_0 15 rfl rfl)
abbrev cX1_pattern : ByteArray := prog_1_method_48_code
def yX1_pattern : MethodName := ⟨RX1, "pattern", "()I"⟩
def dkwX1_pattern_2 : List UInt8 := [172]
abbrev dktX1_pattern_2 : List UInt8 := dkwX1_pattern_2 ++ []
def dkwX1_pattern_1 : List UInt8 := [180, 0, 31, 27, 44, 182, 1, 245, 167, 0, 10, 78, 42, 45, 182, 1, 240, 191, 42, 44, 2, 182, 1, 32]
abbrev dktX1_pattern_1 : List UInt8 := dkwX1_pattern_1 ++ dktX1_pattern_2
def dkwX1_pattern_0 : List UInt8 := [42, 182, 1, 227, 60, 42, 16, 8, 182, 1, 26, 192, 0, 201, 77, 44, 182, 1, 244, 42, 180, 0, 72, 42]
abbrev dktX1_pattern_0 : List UInt8 := dkwX1_pattern_0 ++ dktX1_pattern_1
theorem dksX1_pattern_0 : cX1_pattern.data.toList.drop 0 = dktX1_pattern_0 := by decide +kernel
theorem dksX1_pattern_1 : cX1_pattern.data.toList.drop 24 = dktX1_pattern_1 := dk_seg dksX1_pattern_0 24 rfl rfl
theorem dksX1_pattern_2 : cX1_pattern.data.toList.drop 48 = dktX1_pattern_2 := dk_seg dksX1_pattern_1 24 rfl rfl
theorem dX1_pattern_0 : decode cX1_pattern 0 = .ok (.aload_n 0, 1) := dk_42 (dk_at dksX1_pattern_0 0 rfl rfl)
theorem dX1_pattern_1 : decode cX1_pattern 1 = .ok (.invokevirtual 483, 3) := dk_182 1 227 (dk_at dksX1_pattern_0 1 rfl rfl)
theorem dX1_pattern_4 : decode cX1_pattern 4 = .ok (.istore_n 1, 1) := dk_60 (dk_at dksX1_pattern_0 4 rfl rfl)
theorem dX1_pattern_5 : decode cX1_pattern 5 = .ok (.aload_n 0, 1) := dk_42 (dk_at dksX1_pattern_0 5 rfl rfl)
theorem dX1_pattern_6 : decode cX1_pattern 6 = .ok (.bipush 8, 2) := dk_16 8 (dk_at dksX1_pattern_0 6 rfl rfl)
theorem dX1_pattern_8 : decode cX1_pattern 8 = .ok (.invokevirtual 282, 3) := dk_182 1 26 (dk_at dksX1_pattern_0 8 rfl rfl)
theorem dX1_pattern_11 : decode cX1_pattern 11 = .ok (.checkcast 201, 3) := dk_192 0 201 (dk_at dksX1_pattern_0 11 rfl rfl)
theorem dX1_pattern_14 : decode cX1_pattern 14 = .ok (.astore_n 2, 1) := dk_77 (dk_at dksX1_pattern_0 14 rfl rfl)
theorem dX1_pattern_15 : decode cX1_pattern 15 = .ok (.aload_n 2, 1) := dk_44 (dk_at dksX1_pattern_0 15 rfl rfl)
theorem dX1_pattern_16 : decode cX1_pattern 16 = .ok (.invokevirtual 500, 3) := dk_182 1 244 (dk_at dksX1_pattern_0 16 rfl rfl)
theorem dX1_pattern_19 : decode cX1_pattern 19 = .ok (.aload_n 0, 1) := dk_42 (dk_at dksX1_pattern_0 19 rfl rfl)
theorem dX1_pattern_20 : decode cX1_pattern 20 = .ok (.getfield 72, 3) := dk_180 0 72 (dk_at dksX1_pattern_0 20 rfl rfl)
theorem dX1_pattern_23 : decode cX1_pattern 23 = .ok (.aload_n 0, 1) := dk_42 (dk_at dksX1_pattern_0 23 rfl rfl)
theorem dX1_pattern_24 : decode cX1_pattern 24 = .ok (.getfield 31, 3) := dk_180 0 31 (dk_at dksX1_pattern_1 0 rfl rfl)
theorem dX1_pattern_27 : decode cX1_pattern 27 = .ok (.iload_n 1, 1) := dk_27 (dk_at dksX1_pattern_1 3 rfl rfl)
theorem dX1_pattern_28 : decode cX1_pattern 28 = .ok (.aload_n 2, 1) := dk_44 (dk_at dksX1_pattern_1 4 rfl rfl)
theorem dX1_pattern_29 : decode cX1_pattern 29 = .ok (.invokevirtual 501, 3) := dk_182 1 245 (dk_at dksX1_pattern_1 5 rfl rfl)
theorem dX1_pattern_32 : decode cX1_pattern 32 = .ok (.goto 10, 3) := dk_167 0 10 (dk_at dksX1_pattern_1 8 rfl rfl)
theorem dX1_pattern_35 : decode cX1_pattern 35 = .ok (.astore_n 3, 1) := dk_78 (dk_at dksX1_pattern_1 11 rfl rfl)
theorem dX1_pattern_36 : decode cX1_pattern 36 = .ok (.aload_n 0, 1) := dk_42 (dk_at dksX1_pattern_1 12 rfl rfl)
theorem dX1_pattern_37 : decode cX1_pattern 37 = .ok (.aload_n 3, 1) := dk_45 (dk_at dksX1_pattern_1 13 rfl rfl)
theorem dX1_pattern_38 : decode cX1_pattern 38 = .ok (.invokevirtual 496, 3) := dk_182 1 240 (dk_at dksX1_pattern_1 14 rfl rfl)
theorem dX1_pattern_41 : decode cX1_pattern 41 = .ok (.athrow, 1) := dk_191 (dk_at dksX1_pattern_1 17 rfl rfl)
theorem dX1_pattern_42 : decode cX1_pattern 42 = .ok (.aload_n 0, 1) := dk_42 (dk_at dksX1_pattern_1 18 rfl rfl)
theorem dX1_pattern_43 : decode cX1_pattern 43 = .ok (.aload_n 2, 1) := dk_44 (dk_at dksX1_pattern_1 19 rfl rfl)
theorem dX1_pattern_44 : decode cX1_pattern 44 = .ok (.iconst (-1), 1) := dk_2 (dk_at dksX1_pattern_1 20 rfl rfl)
theorem dX1_pattern_45 : decode cX1_pattern 45 = .ok (.invokevirtual 288, 3) := dk_182 1 32 (dk_at dksX1_pattern_1 21 rfl rfl)
theorem dX1_pattern_48 : decode cX1_pattern 48 = .ok (.ireturn, 1) := dk_172 (dk_at dksX1_pattern_2 0 rfl rfl)
abbrev cX1_match : ByteArray := prog_1_method_49_code
def yX1_match : MethodName := ⟨RX1, "match", "(IIII)I"⟩
def dkwX1_match_4 : List UInt8 := [182, 1, 250, 172]
abbrev dktX1_match_4 : List UInt8 := dkwX1_match_4 ++ []
def dkwX1_match_3 : List UInt8 := [163, 0, 7, 4, 167, 0, 4, 3, 184, 0, 138, 42, 180, 0, 79, 25, 5, 25, 6, 29, 21, 4]
abbrev dktX1_match_3 : List UInt8 := dkwX1_match_3 ++ dktX1_match_4
def dkwX1_match_2 : List UInt8 := [17, 3, 232, 163, 0, 26, 29, 153, 0, 18, 21, 4, 155, 0, 17, 21, 4, 25, 6, 180, 1, 249]
abbrev dktX1_match_2 : List UInt8 := dkwX1_match_2 ++ dktX1_match_3
def dkwX1_match_1 : List UInt8 := [58, 6, 29, 155, 0, 12, 29, 5, 163, 0, 7, 4, 167, 0, 4, 3, 184, 0, 146, 25, 6, 180, 1, 249]
abbrev dktX1_match_1 : List UInt8 := dkwX1_match_1 ++ dktX1_match_2
def dkwX1_match_0 : List UInt8 := [42, 27, 28, 182, 1, 55, 42, 27, 16, 8, 182, 0, 170, 192, 0, 201, 58, 5, 42, 28, 182, 1, 230]
abbrev dktX1_match_0 : List UInt8 := dkwX1_match_0 ++ dktX1_match_1
theorem dksX1_match_0 : cX1_match.data.toList.drop 0 = dktX1_match_0 := by decide +kernel
theorem dksX1_match_1 : cX1_match.data.toList.drop 23 = dktX1_match_1 := dk_seg dksX1_match_0 23 rfl rfl
theorem dksX1_match_2 : cX1_match.data.toList.drop 47 = dktX1_match_2 := dk_seg dksX1_match_1 24 rfl rfl
theorem dksX1_match_3 : cX1_match.data.toList.drop 69 = dktX1_match_3 := dk_seg dksX1_match_2 22 rfl rfl
theorem dksX1_match_4 : cX1_match.data.toList.drop 91 = dktX1_match_4 := dk_seg dksX1_match_3 22 rfl rfl
theorem dX1_match_0 : decode cX1_match 0 = .ok (.aload_n 0, 1) := dk_42 (dk_at dksX1_match_0 0 rfl rfl)
theorem dX1_match_1 : decode cX1_match 1 = .ok (.iload_n 1, 1) := dk_27 (dk_at dksX1_match_0 1 rfl rfl)
theorem dX1_match_2 : decode cX1_match 2 = .ok (.iload_n 2, 1) := dk_28 (dk_at dksX1_match_0 2 rfl rfl)
theorem dX1_match_3 : decode cX1_match 3 = .ok (.invokevirtual 311, 3) := dk_182 1 55 (dk_at dksX1_match_0 3 rfl rfl)
theorem dX1_match_6 : decode cX1_match 6 = .ok (.aload_n 0, 1) := dk_42 (dk_at dksX1_match_0 6 rfl rfl)
theorem dX1_match_7 : decode cX1_match 7 = .ok (.iload_n 1, 1) := dk_27 (dk_at dksX1_match_0 7 rfl rfl)
theorem dX1_match_8 : decode cX1_match 8 = .ok (.bipush 8, 2) := dk_16 8 (dk_at dksX1_match_0 8 rfl rfl)
theorem dX1_match_10 : decode cX1_match 10 = .ok (.invokevirtual 170, 3) := dk_182 0 170 (dk_at dksX1_match_0 10 rfl rfl)
theorem dX1_match_13 : decode cX1_match 13 = .ok (.checkcast 201, 3) := dk_192 0 201 (dk_at dksX1_match_0 13 rfl rfl)
theorem dX1_match_16 : decode cX1_match 16 = .ok (.astore 5, 2) := dk_58 5 (dk_at dksX1_match_0 16 rfl rfl)
theorem dX1_match_18 : decode cX1_match 18 = .ok (.aload_n 0, 1) := dk_42 (dk_at dksX1_match_0 18 rfl rfl)
theorem dX1_match_19 : decode cX1_match 19 = .ok (.iload_n 2, 1) := dk_28 (dk_at dksX1_match_0 19 rfl rfl)
theorem dX1_match_20 : decode cX1_match 20 = .ok (.invokevirtual 486, 3) := dk_182 1 230 (dk_at dksX1_match_0 20 rfl rfl)
theorem dX1_match_23 : decode cX1_match 23 = .ok (.astore 6, 2) := dk_58 6 (dk_at dksX1_match_1 0 rfl rfl)
theorem dX1_match_25 : decode cX1_match 25 = .ok (.iload_n 3, 1) := dk_29 (dk_at dksX1_match_1 2 rfl rfl)
theorem dX1_match_26 : decode cX1_match 26 = .ok (.ifCond .lt 12, 3) := dk_155 0 12 (dk_at dksX1_match_1 3 rfl rfl)
theorem dX1_match_29 : decode cX1_match 29 = .ok (.iload_n 3, 1) := dk_29 (dk_at dksX1_match_1 6 rfl rfl)
theorem dX1_match_30 : decode cX1_match 30 = .ok (.iconst 2, 1) := dk_5 (dk_at dksX1_match_1 7 rfl rfl)
theorem dX1_match_31 : decode cX1_match 31 = .ok (.if_icmp .gt 7, 3) := dk_163 0 7 (dk_at dksX1_match_1 8 rfl rfl)
theorem dX1_match_34 : decode cX1_match 34 = .ok (.iconst 1, 1) := dk_4 (dk_at dksX1_match_1 11 rfl rfl)
theorem dX1_match_35 : decode cX1_match 35 = .ok (.goto 4, 3) := dk_167 0 4 (dk_at dksX1_match_1 12 rfl rfl)
theorem dX1_match_38 : decode cX1_match 38 = .ok (.iconst 0, 1) := dk_3 (dk_at dksX1_match_1 15 rfl rfl)
theorem dX1_match_39 : decode cX1_match 39 = .ok (.invokestatic 146, 3) := dk_184 0 146 (dk_at dksX1_match_1 16 rfl rfl)
theorem dX1_match_42 : decode cX1_match 42 = .ok (.aload 6, 2) := dk_25 6 (dk_at dksX1_match_1 19 rfl rfl)
theorem dX1_match_44 : decode cX1_match 44 = .ok (.getfield 505, 3) := dk_180 1 249 (dk_at dksX1_match_1 21 rfl rfl)
theorem dX1_match_47 : decode cX1_match 47 = .ok (.sipush 1000, 3) := dk_17 3 232 (dk_at dksX1_match_2 0 rfl rfl)
theorem dX1_match_50 : decode cX1_match 50 = .ok (.if_icmp .gt 26, 3) := dk_163 0 26 (dk_at dksX1_match_2 3 rfl rfl)
theorem dX1_match_53 : decode cX1_match 53 = .ok (.iload_n 3, 1) := dk_29 (dk_at dksX1_match_2 6 rfl rfl)
theorem dX1_match_54 : decode cX1_match 54 = .ok (.ifCond .eq 18, 3) := dk_153 0 18 (dk_at dksX1_match_2 7 rfl rfl)
theorem dX1_match_57 : decode cX1_match 57 = .ok (.iload 4, 2) := dk_21 4 (dk_at dksX1_match_2 10 rfl rfl)
theorem dX1_match_59 : decode cX1_match 59 = .ok (.ifCond .lt 17, 3) := dk_155 0 17 (dk_at dksX1_match_2 12 rfl rfl)
theorem dX1_match_62 : decode cX1_match 62 = .ok (.iload 4, 2) := dk_21 4 (dk_at dksX1_match_2 15 rfl rfl)
theorem dX1_match_64 : decode cX1_match 64 = .ok (.aload 6, 2) := dk_25 6 (dk_at dksX1_match_2 17 rfl rfl)
theorem dX1_match_66 : decode cX1_match 66 = .ok (.getfield 505, 3) := dk_180 1 249 (dk_at dksX1_match_2 19 rfl rfl)
theorem dX1_match_69 : decode cX1_match 69 = .ok (.if_icmp .gt 7, 3) := dk_163 0 7 (dk_at dksX1_match_3 0 rfl rfl)
theorem dX1_match_72 : decode cX1_match 72 = .ok (.iconst 1, 1) := dk_4 (dk_at dksX1_match_3 3 rfl rfl)
theorem dX1_match_73 : decode cX1_match 73 = .ok (.goto 4, 3) := dk_167 0 4 (dk_at dksX1_match_3 4 rfl rfl)
theorem dX1_match_76 : decode cX1_match 76 = .ok (.iconst 0, 1) := dk_3 (dk_at dksX1_match_3 7 rfl rfl)
theorem dX1_match_77 : decode cX1_match 77 = .ok (.invokestatic 138, 3) := dk_184 0 138 (dk_at dksX1_match_3 8 rfl rfl)
theorem dX1_match_80 : decode cX1_match 80 = .ok (.aload_n 0, 1) := dk_42 (dk_at dksX1_match_3 11 rfl rfl)
theorem dX1_match_81 : decode cX1_match 81 = .ok (.getfield 79, 3) := dk_180 0 79 (dk_at dksX1_match_3 12 rfl rfl)
theorem dX1_match_84 : decode cX1_match 84 = .ok (.aload 5, 2) := dk_25 5 (dk_at dksX1_match_3 15 rfl rfl)
theorem dX1_match_86 : decode cX1_match 86 = .ok (.aload 6, 2) := dk_25 6 (dk_at dksX1_match_3 17 rfl rfl)
theorem dX1_match_88 : decode cX1_match 88 = .ok (.iload_n 3, 1) := dk_29 (dk_at dksX1_match_3 19 rfl rfl)
theorem dX1_match_89 : decode cX1_match 89 = .ok (.iload 4, 2) := dk_21 4 (dk_at dksX1_match_3 20 rfl rfl)
theorem dX1_match_91 : decode cX1_match 91 = .ok (.invokevirtual 506, 3) := dk_182 1 250 (dk_at dksX1_match_4 0 rfl rfl)
theorem dX1_match_94 : decode cX1_match 94 = .ok (.ireturn, 1) := dk_172 (dk_at dksX1_match_4 3 rfl rfl)
abbrev cX1_group : ByteArray := prog_1_method_50_code
def yX1_group : MethodName := ⟨RX1, "group", "(II)I"⟩
def dkwX1_group_1 : List UInt8 := [184, 0, 146, 42, 180, 0, 79, 180, 1, 254, 5, 27, 104, 28, 96, 46, 172]
abbrev dktX1_group_1 : List UInt8 := dkwX1_group_1 ++ []
def dkwX1_group_0 : List UInt8 := [27, 155, 0, 22, 27, 16, 9, 163, 0, 16, 28, 155, 0, 12, 28, 4, 163, 0, 7, 4, 167, 0, 4, 3]
abbrev dktX1_group_0 : List UInt8 := dkwX1_group_0 ++ dktX1_group_1
theorem dksX1_group_0 : cX1_group.data.toList.drop 0 = dktX1_group_0 := by decide +kernel
theorem dksX1_group_1 : cX1_group.data.toList.drop 24 = dktX1_group_1 := dk_seg dksX1_group_0 24 rfl rfl
theorem dX1_group_0 : decode cX1_group 0 = .ok (.iload_n 1, 1) := dk_27 (dk_at dksX1_group_0 0 rfl rfl)
theorem dX1_group_1 : decode cX1_group 1 = .ok (.ifCond .lt 22, 3) := dk_155 0 22 (dk_at dksX1_group_0 1 rfl rfl)
theorem dX1_group_4 : decode cX1_group 4 = .ok (.iload_n 1, 1) := dk_27 (dk_at dksX1_group_0 4 rfl rfl)
theorem dX1_group_5 : decode cX1_group 5 = .ok (.bipush 9, 2) := dk_16 9 (dk_at dksX1_group_0 5 rfl rfl)
theorem dX1_group_7 : decode cX1_group 7 = .ok (.if_icmp .gt 16, 3) := dk_163 0 16 (dk_at dksX1_group_0 7 rfl rfl)
theorem dX1_group_10 : decode cX1_group 10 = .ok (.iload_n 2, 1) := dk_28 (dk_at dksX1_group_0 10 rfl rfl)
theorem dX1_group_11 : decode cX1_group 11 = .ok (.ifCond .lt 12, 3) := dk_155 0 12 (dk_at dksX1_group_0 11 rfl rfl)
theorem dX1_group_14 : decode cX1_group 14 = .ok (.iload_n 2, 1) := dk_28 (dk_at dksX1_group_0 14 rfl rfl)
theorem dX1_group_15 : decode cX1_group 15 = .ok (.iconst 1, 1) := dk_4 (dk_at dksX1_group_0 15 rfl rfl)
theorem dX1_group_16 : decode cX1_group 16 = .ok (.if_icmp .gt 7, 3) := dk_163 0 7 (dk_at dksX1_group_0 16 rfl rfl)
theorem dX1_group_19 : decode cX1_group 19 = .ok (.iconst 1, 1) := dk_4 (dk_at dksX1_group_0 19 rfl rfl)
theorem dX1_group_20 : decode cX1_group 20 = .ok (.goto 4, 3) := dk_167 0 4 (dk_at dksX1_group_0 20 rfl rfl)
theorem dX1_group_23 : decode cX1_group 23 = .ok (.iconst 0, 1) := dk_3 (dk_at dksX1_group_0 23 rfl rfl)
theorem dX1_group_24 : decode cX1_group 24 = .ok (.invokestatic 146, 3) := dk_184 0 146 (dk_at dksX1_group_1 0 rfl rfl)
theorem dX1_group_27 : decode cX1_group 27 = .ok (.aload_n 0, 1) := dk_42 (dk_at dksX1_group_1 3 rfl rfl)
theorem dX1_group_28 : decode cX1_group 28 = .ok (.getfield 79, 3) := dk_180 0 79 (dk_at dksX1_group_1 4 rfl rfl)
theorem dX1_group_31 : decode cX1_group 31 = .ok (.getfield 510, 3) := dk_180 1 254 (dk_at dksX1_group_1 7 rfl rfl)
theorem dX1_group_34 : decode cX1_group 34 = .ok (.iconst 2, 1) := dk_5 (dk_at dksX1_group_1 10 rfl rfl)
theorem dX1_group_35 : decode cX1_group 35 = .ok (.iload_n 1, 1) := dk_27 (dk_at dksX1_group_1 11 rfl rfl)
theorem dX1_group_36 : decode cX1_group 36 = .ok (.imul, 1) := dk_104 (dk_at dksX1_group_1 12 rfl rfl)
theorem dX1_group_37 : decode cX1_group 37 = .ok (.iload_n 2, 1) := dk_28 (dk_at dksX1_group_1 13 rfl rfl)
theorem dX1_group_38 : decode cX1_group 38 = .ok (.iadd, 1) := dk_96 (dk_at dksX1_group_1 14 rfl rfl)
theorem dX1_group_39 : decode cX1_group 39 = .ok (.iaload, 1) := dk_46 (dk_at dksX1_group_1 15 rfl rfl)
theorem dX1_group_40 : decode cX1_group 40 = .ok (.ireturn, 1) := dk_172 (dk_at dksX1_group_1 16 rfl rfl)
abbrev cX1_replace : ByteArray := prog_1_method_51_code
def yX1_replace : MethodName := ⟨RX1, "replace", "(II)I"⟩
def dkwX1_replace_3 : List UInt8 := [25, 6, 182, 1, 240, 191]
abbrev dktX1_replace_3 : List UInt8 := dkwX1_replace_3 ++ []
def dkwX1_replace_2 : List UInt8 := [184, 0, 138, 42, 180, 0, 79, 25, 4, 25, 5, 42, 180, 0, 31, 29, 182, 2, 1, 172, 58, 6, 42]
abbrev dktX1_replace_2 : List UInt8 := dkwX1_replace_2 ++ dktX1_replace_3
def dkwX1_replace_1 : List UInt8 := [28, 182, 1, 230, 58, 5, 25, 5, 180, 1, 249, 17, 1, 44, 163, 0, 7, 4, 167, 0, 4, 3]
abbrev dktX1_replace_1 : List UInt8 := dkwX1_replace_1 ++ dktX1_replace_2
def dkwX1_replace_0 : List UInt8 := [42, 182, 1, 227, 62, 42, 27, 28, 182, 1, 55, 42, 27, 16, 8, 182, 0, 170, 192, 0, 201, 58, 4, 42]
abbrev dktX1_replace_0 : List UInt8 := dkwX1_replace_0 ++ dktX1_replace_1
theorem dksX1_replace_0 : cX1_replace.data.toList.drop 0 = dktX1_replace_0 := by decide +kernel
theorem dksX1_replace_1 : cX1_replace.data.toList.drop 24 = dktX1_replace_1 := dk_seg dksX1_replace_0 24 rfl rfl
theorem dksX1_replace_2 : cX1_replace.data.toList.drop 46 = dktX1_replace_2 := dk_seg dksX1_replace_1 22 rfl rfl
theorem dksX1_replace_3 : cX1_replace.data.toList.drop 69 = dktX1_replace_3 := dk_seg dksX1_replace_2 23 rfl rfl
theorem dX1_replace_0 : decode cX1_replace 0 = .ok (.aload_n 0, 1) := dk_42 (dk_at dksX1_replace_0 0 rfl rfl)
theorem dX1_replace_1 : decode cX1_replace 1 = .ok (.invokevirtual 483, 3) := dk_182 1 227 (dk_at dksX1_replace_0 1 rfl rfl)
theorem dX1_replace_4 : decode cX1_replace 4 = .ok (.istore_n 3, 1) := dk_62 (dk_at dksX1_replace_0 4 rfl rfl)
theorem dX1_replace_5 : decode cX1_replace 5 = .ok (.aload_n 0, 1) := dk_42 (dk_at dksX1_replace_0 5 rfl rfl)
theorem dX1_replace_6 : decode cX1_replace 6 = .ok (.iload_n 1, 1) := dk_27 (dk_at dksX1_replace_0 6 rfl rfl)
theorem dX1_replace_7 : decode cX1_replace 7 = .ok (.iload_n 2, 1) := dk_28 (dk_at dksX1_replace_0 7 rfl rfl)
theorem dX1_replace_8 : decode cX1_replace 8 = .ok (.invokevirtual 311, 3) := dk_182 1 55 (dk_at dksX1_replace_0 8 rfl rfl)
theorem dX1_replace_11 : decode cX1_replace 11 = .ok (.aload_n 0, 1) := dk_42 (dk_at dksX1_replace_0 11 rfl rfl)
theorem dX1_replace_12 : decode cX1_replace 12 = .ok (.iload_n 1, 1) := dk_27 (dk_at dksX1_replace_0 12 rfl rfl)
theorem dX1_replace_13 : decode cX1_replace 13 = .ok (.bipush 8, 2) := dk_16 8 (dk_at dksX1_replace_0 13 rfl rfl)
theorem dX1_replace_15 : decode cX1_replace 15 = .ok (.invokevirtual 170, 3) := dk_182 0 170 (dk_at dksX1_replace_0 15 rfl rfl)
theorem dX1_replace_18 : decode cX1_replace 18 = .ok (.checkcast 201, 3) := dk_192 0 201 (dk_at dksX1_replace_0 18 rfl rfl)
theorem dX1_replace_21 : decode cX1_replace 21 = .ok (.astore 4, 2) := dk_58 4 (dk_at dksX1_replace_0 21 rfl rfl)
theorem dX1_replace_23 : decode cX1_replace 23 = .ok (.aload_n 0, 1) := dk_42 (dk_at dksX1_replace_0 23 rfl rfl)
theorem dX1_replace_24 : decode cX1_replace 24 = .ok (.iload_n 2, 1) := dk_28 (dk_at dksX1_replace_1 0 rfl rfl)
theorem dX1_replace_25 : decode cX1_replace 25 = .ok (.invokevirtual 486, 3) := dk_182 1 230 (dk_at dksX1_replace_1 1 rfl rfl)
theorem dX1_replace_28 : decode cX1_replace 28 = .ok (.astore 5, 2) := dk_58 5 (dk_at dksX1_replace_1 4 rfl rfl)
theorem dX1_replace_30 : decode cX1_replace 30 = .ok (.aload 5, 2) := dk_25 5 (dk_at dksX1_replace_1 6 rfl rfl)
theorem dX1_replace_32 : decode cX1_replace 32 = .ok (.getfield 505, 3) := dk_180 1 249 (dk_at dksX1_replace_1 8 rfl rfl)
theorem dX1_replace_35 : decode cX1_replace 35 = .ok (.sipush 300, 3) := dk_17 1 44 (dk_at dksX1_replace_1 11 rfl rfl)
theorem dX1_replace_38 : decode cX1_replace 38 = .ok (.if_icmp .gt 7, 3) := dk_163 0 7 (dk_at dksX1_replace_1 14 rfl rfl)
theorem dX1_replace_41 : decode cX1_replace 41 = .ok (.iconst 1, 1) := dk_4 (dk_at dksX1_replace_1 17 rfl rfl)
theorem dX1_replace_42 : decode cX1_replace 42 = .ok (.goto 4, 3) := dk_167 0 4 (dk_at dksX1_replace_1 18 rfl rfl)
theorem dX1_replace_45 : decode cX1_replace 45 = .ok (.iconst 0, 1) := dk_3 (dk_at dksX1_replace_1 21 rfl rfl)
theorem dX1_replace_46 : decode cX1_replace 46 = .ok (.invokestatic 138, 3) := dk_184 0 138 (dk_at dksX1_replace_2 0 rfl rfl)
theorem dX1_replace_49 : decode cX1_replace 49 = .ok (.aload_n 0, 1) := dk_42 (dk_at dksX1_replace_2 3 rfl rfl)
theorem dX1_replace_50 : decode cX1_replace 50 = .ok (.getfield 79, 3) := dk_180 0 79 (dk_at dksX1_replace_2 4 rfl rfl)
theorem dX1_replace_53 : decode cX1_replace 53 = .ok (.aload 4, 2) := dk_25 4 (dk_at dksX1_replace_2 7 rfl rfl)
theorem dX1_replace_55 : decode cX1_replace 55 = .ok (.aload 5, 2) := dk_25 5 (dk_at dksX1_replace_2 9 rfl rfl)
theorem dX1_replace_57 : decode cX1_replace 57 = .ok (.aload_n 0, 1) := dk_42 (dk_at dksX1_replace_2 11 rfl rfl)
theorem dX1_replace_58 : decode cX1_replace 58 = .ok (.getfield 31, 3) := dk_180 0 31 (dk_at dksX1_replace_2 12 rfl rfl)
theorem dX1_replace_61 : decode cX1_replace 61 = .ok (.iload_n 3, 1) := dk_29 (dk_at dksX1_replace_2 15 rfl rfl)
theorem dX1_replace_62 : decode cX1_replace 62 = .ok (.invokevirtual 513, 3) := dk_182 2 1 (dk_at dksX1_replace_2 16 rfl rfl)
theorem dX1_replace_65 : decode cX1_replace 65 = .ok (.ireturn, 1) := dk_172 (dk_at dksX1_replace_2 19 rfl rfl)
theorem dX1_replace_66 : decode cX1_replace 66 = .ok (.astore 6, 2) := dk_58 6 (dk_at dksX1_replace_2 20 rfl rfl)
theorem dX1_replace_68 : decode cX1_replace 68 = .ok (.aload_n 0, 1) := dk_42 (dk_at dksX1_replace_2 22 rfl rfl)
theorem dX1_replace_69 : decode cX1_replace 69 = .ok (.aload 6, 2) := dk_25 6 (dk_at dksX1_replace_3 0 rfl rfl)
theorem dX1_replace_71 : decode cX1_replace 71 = .ok (.invokevirtual 496, 3) := dk_182 1 240 (dk_at dksX1_replace_3 2 rfl rfl)
theorem dX1_replace_74 : decode cX1_replace 74 = .ok (.athrow, 1) := dk_191 (dk_at dksX1_replace_3 5 rfl rfl)
abbrev cX1_form : ByteArray := prog_1_method_52_code
def yX1_form : MethodName := ⟨RX1, "form", "(I)I"⟩
def dkwX1_form_3 : List UInt8 := [180, 0, 42, 182, 2, 17, 42, 180, 0, 38, 180, 2, 21, 172]
abbrev dktX1_form_3 : List UInt8 := dkwX1_form_3 ++ []
def dkwX1_form_2 : List UInt8 := [25, 4, 182, 1, 240, 191, 42, 180, 0, 42, 182, 2, 12, 42, 45, 28, 182, 2, 13, 42, 180, 0, 38, 42]
abbrev dktX1_form_2 : List UInt8 := dkwX1_form_2 ++ dktX1_form_3
def dkwX1_form_1 : List UInt8 := [181, 2, 5, 42, 180, 0, 86, 28, 181, 2, 8, 42, 180, 0, 86, 182, 2, 11, 167, 0, 12, 58, 4, 42]
abbrev dktX1_form_1 : List UInt8 := dkwX1_form_1 ++ dktX1_form_2
def dkwX1_form_0 : List UInt8 := [42, 182, 1, 227, 61, 42, 27, 182, 1, 58, 78, 45, 182, 1, 62, 42, 180, 0, 86, 42, 180, 0, 31]
abbrev dktX1_form_0 : List UInt8 := dkwX1_form_0 ++ dktX1_form_1
theorem dksX1_form_0 : cX1_form.data.toList.drop 0 = dktX1_form_0 := by decide +kernel
theorem dksX1_form_1 : cX1_form.data.toList.drop 23 = dktX1_form_1 := dk_seg dksX1_form_0 23 rfl rfl
theorem dksX1_form_2 : cX1_form.data.toList.drop 47 = dktX1_form_2 := dk_seg dksX1_form_1 24 rfl rfl
theorem dksX1_form_3 : cX1_form.data.toList.drop 71 = dktX1_form_3 := dk_seg dksX1_form_2 24 rfl rfl
theorem dX1_form_0 : decode cX1_form 0 = .ok (.aload_n 0, 1) := dk_42 (dk_at dksX1_form_0 0 rfl rfl)
theorem dX1_form_1 : decode cX1_form 1 = .ok (.invokevirtual 483, 3) := dk_182 1 227 (dk_at dksX1_form_0 1 rfl rfl)
theorem dX1_form_4 : decode cX1_form 4 = .ok (.istore_n 2, 1) := dk_61 (dk_at dksX1_form_0 4 rfl rfl)
theorem dX1_form_5 : decode cX1_form 5 = .ok (.aload_n 0, 1) := dk_42 (dk_at dksX1_form_0 5 rfl rfl)
theorem dX1_form_6 : decode cX1_form 6 = .ok (.iload_n 1, 1) := dk_27 (dk_at dksX1_form_0 6 rfl rfl)
theorem dX1_form_7 : decode cX1_form 7 = .ok (.invokevirtual 314, 3) := dk_182 1 58 (dk_at dksX1_form_0 7 rfl rfl)
theorem dX1_form_10 : decode cX1_form 10 = .ok (.astore_n 3, 1) := dk_78 (dk_at dksX1_form_0 10 rfl rfl)
theorem dX1_form_11 : decode cX1_form 11 = .ok (.aload_n 3, 1) := dk_45 (dk_at dksX1_form_0 11 rfl rfl)
theorem dX1_form_12 : decode cX1_form 12 = .ok (.invokevirtual 318, 3) := dk_182 1 62 (dk_at dksX1_form_0 12 rfl rfl)
theorem dX1_form_15 : decode cX1_form 15 = .ok (.aload_n 0, 1) := dk_42 (dk_at dksX1_form_0 15 rfl rfl)
theorem dX1_form_16 : decode cX1_form 16 = .ok (.getfield 86, 3) := dk_180 0 86 (dk_at dksX1_form_0 16 rfl rfl)
theorem dX1_form_19 : decode cX1_form 19 = .ok (.aload_n 0, 1) := dk_42 (dk_at dksX1_form_0 19 rfl rfl)
theorem dX1_form_20 : decode cX1_form 20 = .ok (.getfield 31, 3) := dk_180 0 31 (dk_at dksX1_form_0 20 rfl rfl)
theorem dX1_form_23 : decode cX1_form 23 = .ok (.putfield 517, 3) := dk_181 2 5 (dk_at dksX1_form_1 0 rfl rfl)
theorem dX1_form_26 : decode cX1_form 26 = .ok (.aload_n 0, 1) := dk_42 (dk_at dksX1_form_1 3 rfl rfl)
theorem dX1_form_27 : decode cX1_form 27 = .ok (.getfield 86, 3) := dk_180 0 86 (dk_at dksX1_form_1 4 rfl rfl)
theorem dX1_form_30 : decode cX1_form 30 = .ok (.iload_n 2, 1) := dk_28 (dk_at dksX1_form_1 7 rfl rfl)
theorem dX1_form_31 : decode cX1_form 31 = .ok (.putfield 520, 3) := dk_181 2 8 (dk_at dksX1_form_1 8 rfl rfl)
theorem dX1_form_34 : decode cX1_form 34 = .ok (.aload_n 0, 1) := dk_42 (dk_at dksX1_form_1 11 rfl rfl)
theorem dX1_form_35 : decode cX1_form 35 = .ok (.getfield 86, 3) := dk_180 0 86 (dk_at dksX1_form_1 12 rfl rfl)
theorem dX1_form_38 : decode cX1_form 38 = .ok (.invokevirtual 523, 3) := dk_182 2 11 (dk_at dksX1_form_1 15 rfl rfl)
theorem dX1_form_41 : decode cX1_form 41 = .ok (.goto 12, 3) := dk_167 0 12 (dk_at dksX1_form_1 18 rfl rfl)
theorem dX1_form_44 : decode cX1_form 44 = .ok (.astore 4, 2) := dk_58 4 (dk_at dksX1_form_1 21 rfl rfl)
theorem dX1_form_46 : decode cX1_form 46 = .ok (.aload_n 0, 1) := dk_42 (dk_at dksX1_form_1 23 rfl rfl)
theorem dX1_form_47 : decode cX1_form 47 = .ok (.aload 4, 2) := dk_25 4 (dk_at dksX1_form_2 0 rfl rfl)
theorem dX1_form_49 : decode cX1_form 49 = .ok (.invokevirtual 496, 3) := dk_182 1 240 (dk_at dksX1_form_2 2 rfl rfl)
theorem dX1_form_52 : decode cX1_form 52 = .ok (.athrow, 1) := dk_191 (dk_at dksX1_form_2 5 rfl rfl)
theorem dX1_form_53 : decode cX1_form 53 = .ok (.aload_n 0, 1) := dk_42 (dk_at dksX1_form_2 6 rfl rfl)
theorem dX1_form_54 : decode cX1_form 54 = .ok (.getfield 42, 3) := dk_180 0 42 (dk_at dksX1_form_2 7 rfl rfl)
theorem dX1_form_57 : decode cX1_form 57 = .ok (.invokevirtual 524, 3) := dk_182 2 12 (dk_at dksX1_form_2 10 rfl rfl)
theorem dX1_form_60 : decode cX1_form 60 = .ok (.aload_n 0, 1) := dk_42 (dk_at dksX1_form_2 13 rfl rfl)
theorem dX1_form_61 : decode cX1_form 61 = .ok (.aload_n 3, 1) := dk_45 (dk_at dksX1_form_2 14 rfl rfl)
theorem dX1_form_62 : decode cX1_form 62 = .ok (.iload_n 2, 1) := dk_28 (dk_at dksX1_form_2 15 rfl rfl)
theorem dX1_form_63 : decode cX1_form 63 = .ok (.invokevirtual 525, 3) := dk_182 2 13 (dk_at dksX1_form_2 16 rfl rfl)
theorem dX1_form_66 : decode cX1_form 66 = .ok (.aload_n 0, 1) := dk_42 (dk_at dksX1_form_2 19 rfl rfl)
theorem dX1_form_67 : decode cX1_form 67 = .ok (.getfield 38, 3) := dk_180 0 38 (dk_at dksX1_form_2 20 rfl rfl)
theorem dX1_form_70 : decode cX1_form 70 = .ok (.aload_n 0, 1) := dk_42 (dk_at dksX1_form_2 23 rfl rfl)
theorem dX1_form_71 : decode cX1_form 71 = .ok (.getfield 42, 3) := dk_180 0 42 (dk_at dksX1_form_3 0 rfl rfl)
theorem dX1_form_74 : decode cX1_form 74 = .ok (.invokevirtual 529, 3) := dk_182 2 17 (dk_at dksX1_form_3 3 rfl rfl)
theorem dX1_form_77 : decode cX1_form 77 = .ok (.aload_n 0, 1) := dk_42 (dk_at dksX1_form_3 6 rfl rfl)
theorem dX1_form_78 : decode cX1_form 78 = .ok (.getfield 38, 3) := dk_180 0 38 (dk_at dksX1_form_3 7 rfl rfl)
theorem dX1_form_81 : decode cX1_form 81 = .ok (.getfield 533, 3) := dk_180 2 21 (dk_at dksX1_form_3 10 rfl rfl)
theorem dX1_form_84 : decode cX1_form 84 = .ok (.ireturn, 1) := dk_172 (dk_at dksX1_form_3 13 rfl rfl)
abbrev cX1_fill : ByteArray := prog_1_method_53_code
def yX1_fill : MethodName := ⟨RX1, "fill", "(LLibraryDesk$Places;I)V"⟩
def dkwX1_fill_7 : List UInt8 := [182, 1, 222, 42, 180, 0, 42, 182, 2, 39, 132, 3, 1, 167, 255, 94, 177]
abbrev dktX1_fill_7 : List UInt8 := dkwX1_fill_7 ++ []
def dkwX1_fill_6 : List UInt8 := [182, 1, 222, 182, 1, 230, 42, 180, 0, 42, 182, 2, 36, 167, 0, 19, 42, 180, 0, 86, 43, 29]
abbrev dktX1_fill_6 : List UInt8 := dkwX1_fill_6 ++ dktX1_fill_7
def dkwX1_fill_5 : List UInt8 := [184, 0, 138, 42, 180, 0, 86, 180, 2, 33, 16, 115, 160, 0, 26, 42, 180, 0, 86, 42, 43, 29]
abbrev dktX1_fill_5 : List UInt8 := dkwX1_fill_5 ++ dktX1_fill_6
def dkwX1_fill_4 : List UInt8 := [180, 0, 42, 16, 37, 182, 2, 27, 167, 255, 167, 29, 43, 182, 1, 185, 162, 0, 7, 4, 167, 0, 4, 3]
abbrev dktX1_fill_4 : List UInt8 := dkwX1_fill_4 ++ dktX1_fill_5
def dkwX1_fill_3 : List UInt8 := [167, 255, 198, 42, 180, 0, 86, 182, 2, 30, 42, 180, 0, 86, 180, 2, 33, 16, 37, 160, 0, 15, 42]
abbrev dktX1_fill_3 : List UInt8 := dkwX1_fill_3 ++ dktX1_fill_4
def dkwX1_fill_2 : List UInt8 := [180, 2, 24, 4, 96, 181, 2, 24, 21, 4, 16, 37, 159, 0, 15, 42, 180, 0, 42, 21, 4, 182, 2, 27]
abbrev dktX1_fill_2 : List UInt8 := dkwX1_fill_2 ++ dktX1_fill_3
def dkwX1_fill_1 : List UInt8 := [180, 0, 31, 42, 180, 0, 86, 180, 2, 24, 51, 17, 0, 255, 126, 54, 4, 42, 180, 0, 86, 89]
abbrev dktX1_fill_1 : List UInt8 := dkwX1_fill_1 ++ dktX1_fill_2
def dkwX1_fill_0 : List UInt8 := [42, 180, 0, 86, 3, 181, 2, 24, 3, 62, 42, 180, 0, 86, 180, 2, 24, 28, 162, 0, 157, 42]
abbrev dktX1_fill_0 : List UInt8 := dkwX1_fill_0 ++ dktX1_fill_1
theorem dksX1_fill_0 : cX1_fill.data.toList.drop 0 = dktX1_fill_0 := by decide +kernel
theorem dksX1_fill_1 : cX1_fill.data.toList.drop 22 = dktX1_fill_1 := dk_seg dksX1_fill_0 22 rfl rfl
theorem dksX1_fill_2 : cX1_fill.data.toList.drop 44 = dktX1_fill_2 := dk_seg dksX1_fill_1 22 rfl rfl
theorem dksX1_fill_3 : cX1_fill.data.toList.drop 68 = dktX1_fill_3 := dk_seg dksX1_fill_2 24 rfl rfl
theorem dksX1_fill_4 : cX1_fill.data.toList.drop 91 = dktX1_fill_4 := dk_seg dksX1_fill_3 23 rfl rfl
theorem dksX1_fill_5 : cX1_fill.data.toList.drop 115 = dktX1_fill_5 := dk_seg dksX1_fill_4 24 rfl rfl
theorem dksX1_fill_6 : cX1_fill.data.toList.drop 137 = dktX1_fill_6 := dk_seg dksX1_fill_5 22 rfl rfl
theorem dksX1_fill_7 : cX1_fill.data.toList.drop 159 = dktX1_fill_7 := dk_seg dksX1_fill_6 22 rfl rfl
theorem dX1_fill_0 : decode cX1_fill 0 = .ok (.aload_n 0, 1) := dk_42 (dk_at dksX1_fill_0 0 rfl rfl)
theorem dX1_fill_1 : decode cX1_fill 1 = .ok (.getfield 86, 3) := dk_180 0 86 (dk_at dksX1_fill_0 1 rfl rfl)
theorem dX1_fill_4 : decode cX1_fill 4 = .ok (.iconst 0, 1) := dk_3 (dk_at dksX1_fill_0 4 rfl rfl)
theorem dX1_fill_5 : decode cX1_fill 5 = .ok (.putfield 536, 3) := dk_181 2 24 (dk_at dksX1_fill_0 5 rfl rfl)
theorem dX1_fill_8 : decode cX1_fill 8 = .ok (.iconst 0, 1) := dk_3 (dk_at dksX1_fill_0 8 rfl rfl)
theorem dX1_fill_9 : decode cX1_fill 9 = .ok (.istore_n 3, 1) := dk_62 (dk_at dksX1_fill_0 9 rfl rfl)
theorem dX1_fill_10 : decode cX1_fill 10 = .ok (.aload_n 0, 1) := dk_42 (dk_at dksX1_fill_0 10 rfl rfl)
theorem dX1_fill_11 : decode cX1_fill 11 = .ok (.getfield 86, 3) := dk_180 0 86 (dk_at dksX1_fill_0 11 rfl rfl)
theorem dX1_fill_14 : decode cX1_fill 14 = .ok (.getfield 536, 3) := dk_180 2 24 (dk_at dksX1_fill_0 14 rfl rfl)
theorem dX1_fill_17 : decode cX1_fill 17 = .ok (.iload_n 2, 1) := dk_28 (dk_at dksX1_fill_0 17 rfl rfl)
theorem dX1_fill_18 : decode cX1_fill 18 = .ok (.if_icmp .ge 157, 3) := dk_162 0 157 (dk_at dksX1_fill_0 18 rfl rfl)
theorem dX1_fill_21 : decode cX1_fill 21 = .ok (.aload_n 0, 1) := dk_42 (dk_at dksX1_fill_0 21 rfl rfl)
theorem dX1_fill_22 : decode cX1_fill 22 = .ok (.getfield 31, 3) := dk_180 0 31 (dk_at dksX1_fill_1 0 rfl rfl)
theorem dX1_fill_25 : decode cX1_fill 25 = .ok (.aload_n 0, 1) := dk_42 (dk_at dksX1_fill_1 3 rfl rfl)
theorem dX1_fill_26 : decode cX1_fill 26 = .ok (.getfield 86, 3) := dk_180 0 86 (dk_at dksX1_fill_1 4 rfl rfl)
theorem dX1_fill_29 : decode cX1_fill 29 = .ok (.getfield 536, 3) := dk_180 2 24 (dk_at dksX1_fill_1 7 rfl rfl)
theorem dX1_fill_32 : decode cX1_fill 32 = .ok (.baload, 1) := dk_51 (dk_at dksX1_fill_1 10 rfl rfl)
theorem dX1_fill_33 : decode cX1_fill 33 = .ok (.sipush 255, 3) := dk_17 0 255 (dk_at dksX1_fill_1 11 rfl rfl)
theorem dX1_fill_36 : decode cX1_fill 36 = .ok (.iand, 1) := dk_126 (dk_at dksX1_fill_1 14 rfl rfl)
theorem dX1_fill_37 : decode cX1_fill 37 = .ok (.istore 4, 2) := dk_54 4 (dk_at dksX1_fill_1 15 rfl rfl)
theorem dX1_fill_39 : decode cX1_fill 39 = .ok (.aload_n 0, 1) := dk_42 (dk_at dksX1_fill_1 17 rfl rfl)
theorem dX1_fill_40 : decode cX1_fill 40 = .ok (.getfield 86, 3) := dk_180 0 86 (dk_at dksX1_fill_1 18 rfl rfl)
theorem dX1_fill_43 : decode cX1_fill 43 = .ok (.dup, 1) := dk_89 (dk_at dksX1_fill_1 21 rfl rfl)
theorem dX1_fill_44 : decode cX1_fill 44 = .ok (.getfield 536, 3) := dk_180 2 24 (dk_at dksX1_fill_2 0 rfl rfl)
theorem dX1_fill_47 : decode cX1_fill 47 = .ok (.iconst 1, 1) := dk_4 (dk_at dksX1_fill_2 3 rfl rfl)
theorem dX1_fill_48 : decode cX1_fill 48 = .ok (.iadd, 1) := dk_96 (dk_at dksX1_fill_2 4 rfl rfl)
theorem dX1_fill_49 : decode cX1_fill 49 = .ok (.putfield 536, 3) := dk_181 2 24 (dk_at dksX1_fill_2 5 rfl rfl)
theorem dX1_fill_52 : decode cX1_fill 52 = .ok (.iload 4, 2) := dk_21 4 (dk_at dksX1_fill_2 8 rfl rfl)
theorem dX1_fill_54 : decode cX1_fill 54 = .ok (.bipush 37, 2) := dk_16 37 (dk_at dksX1_fill_2 10 rfl rfl)
theorem dX1_fill_56 : decode cX1_fill 56 = .ok (.if_icmp .eq 15, 3) := dk_159 0 15 (dk_at dksX1_fill_2 12 rfl rfl)
theorem dX1_fill_59 : decode cX1_fill 59 = .ok (.aload_n 0, 1) := dk_42 (dk_at dksX1_fill_2 15 rfl rfl)
theorem dX1_fill_60 : decode cX1_fill 60 = .ok (.getfield 42, 3) := dk_180 0 42 (dk_at dksX1_fill_2 16 rfl rfl)
theorem dX1_fill_63 : decode cX1_fill 63 = .ok (.iload 4, 2) := dk_21 4 (dk_at dksX1_fill_2 19 rfl rfl)
theorem dX1_fill_65 : decode cX1_fill 65 = .ok (.invokevirtual 539, 3) := dk_182 2 27 (dk_at dksX1_fill_2 21 rfl rfl)
theorem dX1_fill_68 : decode cX1_fill 68 = .ok (.goto (-58), 3) := dk_167 255 198 (dk_at dksX1_fill_3 0 rfl rfl)
theorem dX1_fill_71 : decode cX1_fill 71 = .ok (.aload_n 0, 1) := dk_42 (dk_at dksX1_fill_3 3 rfl rfl)
theorem dX1_fill_72 : decode cX1_fill 72 = .ok (.getfield 86, 3) := dk_180 0 86 (dk_at dksX1_fill_3 4 rfl rfl)
theorem dX1_fill_75 : decode cX1_fill 75 = .ok (.invokevirtual 542, 3) := dk_182 2 30 (dk_at dksX1_fill_3 7 rfl rfl)
theorem dX1_fill_78 : decode cX1_fill 78 = .ok (.aload_n 0, 1) := dk_42 (dk_at dksX1_fill_3 10 rfl rfl)
theorem dX1_fill_79 : decode cX1_fill 79 = .ok (.getfield 86, 3) := dk_180 0 86 (dk_at dksX1_fill_3 11 rfl rfl)
theorem dX1_fill_82 : decode cX1_fill 82 = .ok (.getfield 545, 3) := dk_180 2 33 (dk_at dksX1_fill_3 14 rfl rfl)
theorem dX1_fill_85 : decode cX1_fill 85 = .ok (.bipush 37, 2) := dk_16 37 (dk_at dksX1_fill_3 17 rfl rfl)
theorem dX1_fill_87 : decode cX1_fill 87 = .ok (.if_icmp .ne 15, 3) := dk_160 0 15 (dk_at dksX1_fill_3 19 rfl rfl)
theorem dX1_fill_90 : decode cX1_fill 90 = .ok (.aload_n 0, 1) := dk_42 (dk_at dksX1_fill_3 22 rfl rfl)
theorem dX1_fill_91 : decode cX1_fill 91 = .ok (.getfield 42, 3) := dk_180 0 42 (dk_at dksX1_fill_4 0 rfl rfl)
theorem dX1_fill_94 : decode cX1_fill 94 = .ok (.bipush 37, 2) := dk_16 37 (dk_at dksX1_fill_4 3 rfl rfl)
theorem dX1_fill_96 : decode cX1_fill 96 = .ok (.invokevirtual 539, 3) := dk_182 2 27 (dk_at dksX1_fill_4 5 rfl rfl)
theorem dX1_fill_99 : decode cX1_fill 99 = .ok (.goto (-89), 3) := dk_167 255 167 (dk_at dksX1_fill_4 8 rfl rfl)
theorem dX1_fill_102 : decode cX1_fill 102 = .ok (.iload_n 3, 1) := dk_29 (dk_at dksX1_fill_4 11 rfl rfl)
theorem dX1_fill_103 : decode cX1_fill 103 = .ok (.aload_n 1, 1) := dk_43 (dk_at dksX1_fill_4 12 rfl rfl)
theorem dX1_fill_104 : decode cX1_fill 104 = .ok (.invokevirtual 441, 3) := dk_182 1 185 (dk_at dksX1_fill_4 13 rfl rfl)
theorem dX1_fill_107 : decode cX1_fill 107 = .ok (.if_icmp .ge 7, 3) := dk_162 0 7 (dk_at dksX1_fill_4 16 rfl rfl)
theorem dX1_fill_110 : decode cX1_fill 110 = .ok (.iconst 1, 1) := dk_4 (dk_at dksX1_fill_4 19 rfl rfl)
theorem dX1_fill_111 : decode cX1_fill 111 = .ok (.goto 4, 3) := dk_167 0 4 (dk_at dksX1_fill_4 20 rfl rfl)
theorem dX1_fill_114 : decode cX1_fill 114 = .ok (.iconst 0, 1) := dk_3 (dk_at dksX1_fill_4 23 rfl rfl)
theorem dX1_fill_115 : decode cX1_fill 115 = .ok (.invokestatic 138, 3) := dk_184 0 138 (dk_at dksX1_fill_5 0 rfl rfl)
theorem dX1_fill_118 : decode cX1_fill 118 = .ok (.aload_n 0, 1) := dk_42 (dk_at dksX1_fill_5 3 rfl rfl)
theorem dX1_fill_119 : decode cX1_fill 119 = .ok (.getfield 86, 3) := dk_180 0 86 (dk_at dksX1_fill_5 4 rfl rfl)
theorem dX1_fill_122 : decode cX1_fill 122 = .ok (.getfield 545, 3) := dk_180 2 33 (dk_at dksX1_fill_5 7 rfl rfl)
theorem dX1_fill_125 : decode cX1_fill 125 = .ok (.bipush 115, 2) := dk_16 115 (dk_at dksX1_fill_5 10 rfl rfl)
theorem dX1_fill_127 : decode cX1_fill 127 = .ok (.if_icmp .ne 26, 3) := dk_160 0 26 (dk_at dksX1_fill_5 12 rfl rfl)
theorem dX1_fill_130 : decode cX1_fill 130 = .ok (.aload_n 0, 1) := dk_42 (dk_at dksX1_fill_5 15 rfl rfl)
theorem dX1_fill_131 : decode cX1_fill 131 = .ok (.getfield 86, 3) := dk_180 0 86 (dk_at dksX1_fill_5 16 rfl rfl)
theorem dX1_fill_134 : decode cX1_fill 134 = .ok (.aload_n 0, 1) := dk_42 (dk_at dksX1_fill_5 19 rfl rfl)
theorem dX1_fill_135 : decode cX1_fill 135 = .ok (.aload_n 1, 1) := dk_43 (dk_at dksX1_fill_5 20 rfl rfl)
theorem dX1_fill_136 : decode cX1_fill 136 = .ok (.iload_n 3, 1) := dk_29 (dk_at dksX1_fill_5 21 rfl rfl)
theorem dX1_fill_137 : decode cX1_fill 137 = .ok (.invokevirtual 478, 3) := dk_182 1 222 (dk_at dksX1_fill_6 0 rfl rfl)
theorem dX1_fill_140 : decode cX1_fill 140 = .ok (.invokevirtual 486, 3) := dk_182 1 230 (dk_at dksX1_fill_6 3 rfl rfl)
theorem dX1_fill_143 : decode cX1_fill 143 = .ok (.aload_n 0, 1) := dk_42 (dk_at dksX1_fill_6 6 rfl rfl)
theorem dX1_fill_144 : decode cX1_fill 144 = .ok (.getfield 42, 3) := dk_180 0 42 (dk_at dksX1_fill_6 7 rfl rfl)
theorem dX1_fill_147 : decode cX1_fill 147 = .ok (.invokevirtual 548, 3) := dk_182 2 36 (dk_at dksX1_fill_6 10 rfl rfl)
theorem dX1_fill_150 : decode cX1_fill 150 = .ok (.goto 19, 3) := dk_167 0 19 (dk_at dksX1_fill_6 13 rfl rfl)
theorem dX1_fill_153 : decode cX1_fill 153 = .ok (.aload_n 0, 1) := dk_42 (dk_at dksX1_fill_6 16 rfl rfl)
theorem dX1_fill_154 : decode cX1_fill 154 = .ok (.getfield 86, 3) := dk_180 0 86 (dk_at dksX1_fill_6 17 rfl rfl)
theorem dX1_fill_157 : decode cX1_fill 157 = .ok (.aload_n 1, 1) := dk_43 (dk_at dksX1_fill_6 20 rfl rfl)
theorem dX1_fill_158 : decode cX1_fill 158 = .ok (.iload_n 3, 1) := dk_29 (dk_at dksX1_fill_6 21 rfl rfl)
theorem dX1_fill_159 : decode cX1_fill 159 = .ok (.invokevirtual 478, 3) := dk_182 1 222 (dk_at dksX1_fill_7 0 rfl rfl)
theorem dX1_fill_162 : decode cX1_fill 162 = .ok (.aload_n 0, 1) := dk_42 (dk_at dksX1_fill_7 3 rfl rfl)
theorem dX1_fill_163 : decode cX1_fill 163 = .ok (.getfield 42, 3) := dk_180 0 42 (dk_at dksX1_fill_7 4 rfl rfl)
theorem dX1_fill_166 : decode cX1_fill 166 = .ok (.invokevirtual 551, 3) := dk_182 2 39 (dk_at dksX1_fill_7 7 rfl rfl)
theorem dX1_fill_169 : decode cX1_fill 169 = .ok (.iinc 3 1, 3) := dk_132 3 1 (dk_at dksX1_fill_7 10 rfl rfl)
theorem dX1_fill_172 : decode cX1_fill 172 = .ok (.goto (-162), 3) := dk_167 255 94 (dk_at dksX1_fill_7 13 rfl rfl)
theorem dX1_fill_175 : decode cX1_fill 175 = .ok (.return_, 1) := dk_177 (dk_at dksX1_fill_7 16 rfl rfl)
abbrev cX1_set : ByteArray := prog_1_method_54_code
def yX1_set : MethodName := ⟨RX1, "set", "(IJ)I"⟩
def dkwX1_set_1 : List UInt8 := [180, 1, 1, 182, 2, 45, 172]
abbrev dktX1_set_1 : List UInt8 := dkwX1_set_1 ++ []
def dkwX1_set_0 : List UInt8 := [42, 27, 16, 11, 182, 0, 170, 192, 0, 210, 58, 4, 25, 4, 180, 1, 1, 32, 182, 2, 42, 25, 4]
abbrev dktX1_set_0 : List UInt8 := dkwX1_set_0 ++ dktX1_set_1
theorem dksX1_set_0 : cX1_set.data.toList.drop 0 = dktX1_set_0 := by decide +kernel
theorem dksX1_set_1 : cX1_set.data.toList.drop 23 = dktX1_set_1 := dk_seg dksX1_set_0 23 rfl rfl
theorem dX1_set_0 : decode cX1_set 0 = .ok (.aload_n 0, 1) := dk_42 (dk_at dksX1_set_0 0 rfl rfl)
theorem dX1_set_1 : decode cX1_set 1 = .ok (.iload_n 1, 1) := dk_27 (dk_at dksX1_set_0 1 rfl rfl)
theorem dX1_set_2 : decode cX1_set 2 = .ok (.bipush 11, 2) := dk_16 11 (dk_at dksX1_set_0 2 rfl rfl)
theorem dX1_set_4 : decode cX1_set 4 = .ok (.invokevirtual 170, 3) := dk_182 0 170 (dk_at dksX1_set_0 4 rfl rfl)
theorem dX1_set_7 : decode cX1_set 7 = .ok (.checkcast 210, 3) := dk_192 0 210 (dk_at dksX1_set_0 7 rfl rfl)
theorem dX1_set_10 : decode cX1_set 10 = .ok (.astore 4, 2) := dk_58 4 (dk_at dksX1_set_0 10 rfl rfl)
theorem dX1_set_12 : decode cX1_set 12 = .ok (.aload 4, 2) := dk_25 4 (dk_at dksX1_set_0 12 rfl rfl)
theorem dX1_set_14 : decode cX1_set 14 = .ok (.getfield 257, 3) := dk_180 1 1 (dk_at dksX1_set_0 14 rfl rfl)
theorem dX1_set_17 : decode cX1_set 17 = .ok (.lload_n 2, 1) := dk_32 (dk_at dksX1_set_0 17 rfl rfl)
theorem dX1_set_18 : decode cX1_set 18 = .ok (.invokevirtual 554, 3) := dk_182 2 42 (dk_at dksX1_set_0 18 rfl rfl)
theorem dX1_set_21 : decode cX1_set 21 = .ok (.aload 4, 2) := dk_25 4 (dk_at dksX1_set_0 21 rfl rfl)
theorem dX1_set_23 : decode cX1_set 23 = .ok (.getfield 257, 3) := dk_180 1 1 (dk_at dksX1_set_1 0 rfl rfl)
theorem dX1_set_26 : decode cX1_set 26 = .ok (.invokevirtual 557, 3) := dk_182 2 45 (dk_at dksX1_set_1 3 rfl rfl)
theorem dX1_set_29 : decode cX1_set 29 = .ok (.ireturn, 1) := dk_172 (dk_at dksX1_set_1 6 rfl rfl)
abbrev cX1_whole : ByteArray := prog_1_method_55_code
def yX1_whole : MethodName := ⟨RX1, "whole", "(IIII)I"⟩
def dkwX1_whole_5 : List UInt8 := [180, 1, 1, 182, 2, 48, 25, 6, 180, 1, 1, 182, 2, 45, 172]
abbrev dktX1_whole_5 : List UInt8 := dkwX1_whole_5 ++ []
def dkwX1_whole_4 : List UInt8 := [167, 0, 4, 3, 184, 0, 146, 42, 180, 0, 93, 28, 25, 6, 180, 1, 1, 25, 7, 180, 1, 1, 25, 8]
abbrev dktX1_whole_4 : List UInt8 := dkwX1_whole_4 ++ dktX1_whole_5
def dkwX1_whole_3 : List UInt8 := [21, 4, 16, 11, 182, 0, 170, 192, 0, 210, 58, 8, 28, 155, 0, 13, 28, 16, 13, 163, 0, 7, 4]
abbrev dktX1_whole_3 : List UInt8 := dkwX1_whole_3 ++ dktX1_whole_4
def dkwX1_whole_2 : List UInt8 := [42, 29, 16, 11, 182, 0, 170, 192, 0, 210, 58, 7, 21, 5, 153, 0, 8, 25, 7, 167, 0, 14, 42]
abbrev dktX1_whole_2 : List UInt8 := dkwX1_whole_2 ++ dktX1_whole_3
def dkwX1_whole_1 : List UInt8 := [153, 0, 7, 29, 167, 0, 5, 21, 4, 182, 1, 55, 42, 27, 16, 11, 182, 0, 170, 192, 0, 210, 58, 6]
abbrev dktX1_whole_1 : List UInt8 := dkwX1_whole_1 ++ dktX1_whole_2
def dkwX1_whole_0 : List UInt8 := [28, 16, 9, 160, 0, 7, 4, 167, 0, 4, 3, 54, 5, 42, 27, 29, 182, 1, 55, 42, 27, 21, 5]
abbrev dktX1_whole_0 : List UInt8 := dkwX1_whole_0 ++ dktX1_whole_1
theorem dksX1_whole_0 : cX1_whole.data.toList.drop 0 = dktX1_whole_0 := by decide +kernel
theorem dksX1_whole_1 : cX1_whole.data.toList.drop 23 = dktX1_whole_1 := dk_seg dksX1_whole_0 23 rfl rfl
theorem dksX1_whole_2 : cX1_whole.data.toList.drop 47 = dktX1_whole_2 := dk_seg dksX1_whole_1 24 rfl rfl
theorem dksX1_whole_3 : cX1_whole.data.toList.drop 70 = dktX1_whole_3 := dk_seg dksX1_whole_2 23 rfl rfl
theorem dksX1_whole_4 : cX1_whole.data.toList.drop 93 = dktX1_whole_4 := dk_seg dksX1_whole_3 23 rfl rfl
theorem dksX1_whole_5 : cX1_whole.data.toList.drop 117 = dktX1_whole_5 := dk_seg dksX1_whole_4 24 rfl rfl
theorem dX1_whole_0 : decode cX1_whole 0 = .ok (.iload_n 2, 1) := dk_28 (dk_at dksX1_whole_0 0 rfl rfl)
theorem dX1_whole_1 : decode cX1_whole 1 = .ok (.bipush 9, 2) := dk_16 9 (dk_at dksX1_whole_0 1 rfl rfl)
theorem dX1_whole_3 : decode cX1_whole 3 = .ok (.if_icmp .ne 7, 3) := dk_160 0 7 (dk_at dksX1_whole_0 3 rfl rfl)
theorem dX1_whole_6 : decode cX1_whole 6 = .ok (.iconst 1, 1) := dk_4 (dk_at dksX1_whole_0 6 rfl rfl)
theorem dX1_whole_7 : decode cX1_whole 7 = .ok (.goto 4, 3) := dk_167 0 4 (dk_at dksX1_whole_0 7 rfl rfl)
theorem dX1_whole_10 : decode cX1_whole 10 = .ok (.iconst 0, 1) := dk_3 (dk_at dksX1_whole_0 10 rfl rfl)
theorem dX1_whole_11 : decode cX1_whole 11 = .ok (.istore 5, 2) := dk_54 5 (dk_at dksX1_whole_0 11 rfl rfl)
theorem dX1_whole_13 : decode cX1_whole 13 = .ok (.aload_n 0, 1) := dk_42 (dk_at dksX1_whole_0 13 rfl rfl)
theorem dX1_whole_14 : decode cX1_whole 14 = .ok (.iload_n 1, 1) := dk_27 (dk_at dksX1_whole_0 14 rfl rfl)
theorem dX1_whole_15 : decode cX1_whole 15 = .ok (.iload_n 3, 1) := dk_29 (dk_at dksX1_whole_0 15 rfl rfl)
theorem dX1_whole_16 : decode cX1_whole 16 = .ok (.invokevirtual 311, 3) := dk_182 1 55 (dk_at dksX1_whole_0 16 rfl rfl)
theorem dX1_whole_19 : decode cX1_whole 19 = .ok (.aload_n 0, 1) := dk_42 (dk_at dksX1_whole_0 19 rfl rfl)
theorem dX1_whole_20 : decode cX1_whole 20 = .ok (.iload_n 1, 1) := dk_27 (dk_at dksX1_whole_0 20 rfl rfl)
theorem dX1_whole_21 : decode cX1_whole 21 = .ok (.iload 5, 2) := dk_21 5 (dk_at dksX1_whole_0 21 rfl rfl)
theorem dX1_whole_23 : decode cX1_whole 23 = .ok (.ifCond .eq 7, 3) := dk_153 0 7 (dk_at dksX1_whole_1 0 rfl rfl)
theorem dX1_whole_26 : decode cX1_whole 26 = .ok (.iload_n 3, 1) := dk_29 (dk_at dksX1_whole_1 3 rfl rfl)
theorem dX1_whole_27 : decode cX1_whole 27 = .ok (.goto 5, 3) := dk_167 0 5 (dk_at dksX1_whole_1 4 rfl rfl)
theorem dX1_whole_30 : decode cX1_whole 30 = .ok (.iload 4, 2) := dk_21 4 (dk_at dksX1_whole_1 7 rfl rfl)
theorem dX1_whole_32 : decode cX1_whole 32 = .ok (.invokevirtual 311, 3) := dk_182 1 55 (dk_at dksX1_whole_1 9 rfl rfl)
theorem dX1_whole_35 : decode cX1_whole 35 = .ok (.aload_n 0, 1) := dk_42 (dk_at dksX1_whole_1 12 rfl rfl)
theorem dX1_whole_36 : decode cX1_whole 36 = .ok (.iload_n 1, 1) := dk_27 (dk_at dksX1_whole_1 13 rfl rfl)
theorem dX1_whole_37 : decode cX1_whole 37 = .ok (.bipush 11, 2) := dk_16 11 (dk_at dksX1_whole_1 14 rfl rfl)
theorem dX1_whole_39 : decode cX1_whole 39 = .ok (.invokevirtual 170, 3) := dk_182 0 170 (dk_at dksX1_whole_1 16 rfl rfl)
theorem dX1_whole_42 : decode cX1_whole 42 = .ok (.checkcast 210, 3) := dk_192 0 210 (dk_at dksX1_whole_1 19 rfl rfl)
theorem dX1_whole_45 : decode cX1_whole 45 = .ok (.astore 6, 2) := dk_58 6 (dk_at dksX1_whole_1 22 rfl rfl)
theorem dX1_whole_47 : decode cX1_whole 47 = .ok (.aload_n 0, 1) := dk_42 (dk_at dksX1_whole_2 0 rfl rfl)
theorem dX1_whole_48 : decode cX1_whole 48 = .ok (.iload_n 3, 1) := dk_29 (dk_at dksX1_whole_2 1 rfl rfl)
theorem dX1_whole_49 : decode cX1_whole 49 = .ok (.bipush 11, 2) := dk_16 11 (dk_at dksX1_whole_2 2 rfl rfl)
theorem dX1_whole_51 : decode cX1_whole 51 = .ok (.invokevirtual 170, 3) := dk_182 0 170 (dk_at dksX1_whole_2 4 rfl rfl)
theorem dX1_whole_54 : decode cX1_whole 54 = .ok (.checkcast 210, 3) := dk_192 0 210 (dk_at dksX1_whole_2 7 rfl rfl)
theorem dX1_whole_57 : decode cX1_whole 57 = .ok (.astore 7, 2) := dk_58 7 (dk_at dksX1_whole_2 10 rfl rfl)
theorem dX1_whole_59 : decode cX1_whole 59 = .ok (.iload 5, 2) := dk_21 5 (dk_at dksX1_whole_2 12 rfl rfl)
theorem dX1_whole_61 : decode cX1_whole 61 = .ok (.ifCond .eq 8, 3) := dk_153 0 8 (dk_at dksX1_whole_2 14 rfl rfl)
theorem dX1_whole_64 : decode cX1_whole 64 = .ok (.aload 7, 2) := dk_25 7 (dk_at dksX1_whole_2 17 rfl rfl)
theorem dX1_whole_66 : decode cX1_whole 66 = .ok (.goto 14, 3) := dk_167 0 14 (dk_at dksX1_whole_2 19 rfl rfl)
theorem dX1_whole_69 : decode cX1_whole 69 = .ok (.aload_n 0, 1) := dk_42 (dk_at dksX1_whole_2 22 rfl rfl)
theorem dX1_whole_70 : decode cX1_whole 70 = .ok (.iload 4, 2) := dk_21 4 (dk_at dksX1_whole_3 0 rfl rfl)
theorem dX1_whole_72 : decode cX1_whole 72 = .ok (.bipush 11, 2) := dk_16 11 (dk_at dksX1_whole_3 2 rfl rfl)
theorem dX1_whole_74 : decode cX1_whole 74 = .ok (.invokevirtual 170, 3) := dk_182 0 170 (dk_at dksX1_whole_3 4 rfl rfl)
theorem dX1_whole_77 : decode cX1_whole 77 = .ok (.checkcast 210, 3) := dk_192 0 210 (dk_at dksX1_whole_3 7 rfl rfl)
theorem dX1_whole_80 : decode cX1_whole 80 = .ok (.astore 8, 2) := dk_58 8 (dk_at dksX1_whole_3 10 rfl rfl)
theorem dX1_whole_82 : decode cX1_whole 82 = .ok (.iload_n 2, 1) := dk_28 (dk_at dksX1_whole_3 12 rfl rfl)
theorem dX1_whole_83 : decode cX1_whole 83 = .ok (.ifCond .lt 13, 3) := dk_155 0 13 (dk_at dksX1_whole_3 13 rfl rfl)
theorem dX1_whole_86 : decode cX1_whole 86 = .ok (.iload_n 2, 1) := dk_28 (dk_at dksX1_whole_3 16 rfl rfl)
theorem dX1_whole_87 : decode cX1_whole 87 = .ok (.bipush 13, 2) := dk_16 13 (dk_at dksX1_whole_3 17 rfl rfl)
theorem dX1_whole_89 : decode cX1_whole 89 = .ok (.if_icmp .gt 7, 3) := dk_163 0 7 (dk_at dksX1_whole_3 19 rfl rfl)
theorem dX1_whole_92 : decode cX1_whole 92 = .ok (.iconst 1, 1) := dk_4 (dk_at dksX1_whole_3 22 rfl rfl)
theorem dX1_whole_93 : decode cX1_whole 93 = .ok (.goto 4, 3) := dk_167 0 4 (dk_at dksX1_whole_4 0 rfl rfl)
theorem dX1_whole_96 : decode cX1_whole 96 = .ok (.iconst 0, 1) := dk_3 (dk_at dksX1_whole_4 3 rfl rfl)
theorem dX1_whole_97 : decode cX1_whole 97 = .ok (.invokestatic 146, 3) := dk_184 0 146 (dk_at dksX1_whole_4 4 rfl rfl)
theorem dX1_whole_100 : decode cX1_whole 100 = .ok (.aload_n 0, 1) := dk_42 (dk_at dksX1_whole_4 7 rfl rfl)
theorem dX1_whole_101 : decode cX1_whole 101 = .ok (.getfield 93, 3) := dk_180 0 93 (dk_at dksX1_whole_4 8 rfl rfl)
theorem dX1_whole_104 : decode cX1_whole 104 = .ok (.iload_n 2, 1) := dk_28 (dk_at dksX1_whole_4 11 rfl rfl)
theorem dX1_whole_105 : decode cX1_whole 105 = .ok (.aload 6, 2) := dk_25 6 (dk_at dksX1_whole_4 12 rfl rfl)
theorem dX1_whole_107 : decode cX1_whole 107 = .ok (.getfield 257, 3) := dk_180 1 1 (dk_at dksX1_whole_4 14 rfl rfl)
theorem dX1_whole_110 : decode cX1_whole 110 = .ok (.aload 7, 2) := dk_25 7 (dk_at dksX1_whole_4 17 rfl rfl)
theorem dX1_whole_112 : decode cX1_whole 112 = .ok (.getfield 257, 3) := dk_180 1 1 (dk_at dksX1_whole_4 19 rfl rfl)
theorem dX1_whole_115 : decode cX1_whole 115 = .ok (.aload 8, 2) := dk_25 8 (dk_at dksX1_whole_4 22 rfl rfl)
theorem dX1_whole_117 : decode cX1_whole 117 = .ok (.getfield 257, 3) := dk_180 1 1 (dk_at dksX1_whole_5 0 rfl rfl)
theorem dX1_whole_120 : decode cX1_whole 120 = .ok (.invokevirtual 560, 3) := dk_182 2 48 (dk_at dksX1_whole_5 3 rfl rfl)
theorem dX1_whole_123 : decode cX1_whole 123 = .ok (.aload 6, 2) := dk_25 6 (dk_at dksX1_whole_5 6 rfl rfl)
theorem dX1_whole_125 : decode cX1_whole 125 = .ok (.getfield 257, 3) := dk_180 1 1 (dk_at dksX1_whole_5 8 rfl rfl)
theorem dX1_whole_128 : decode cX1_whole 128 = .ok (.invokevirtual 557, 3) := dk_182 2 45 (dk_at dksX1_whole_5 11 rfl rfl)
theorem dX1_whole_131 : decode cX1_whole 131 = .ok (.ireturn, 1) := dk_172 (dk_at dksX1_whole_5 14 rfl rfl)
abbrev cX1_sound : ByteArray := prog_1_method_7_code
def yX1_sound : MethodName := ⟨RX1, "sound", "(Z)V"⟩
def dkwX1_sound_0 : List UInt8 := [26, 154, 0, 11, 187, 0, 22, 89, 183, 0, 24, 191, 177]
abbrev dktX1_sound_0 : List UInt8 := dkwX1_sound_0 ++ []
theorem dksX1_sound_0 : cX1_sound.data.toList.drop 0 = dktX1_sound_0 := by decide +kernel
theorem dX1_sound_0 : decode cX1_sound 0 = .ok (.iload_n 0, 1) := dk_26 (dk_at dksX1_sound_0 0 rfl rfl)
theorem dX1_sound_1 : decode cX1_sound 1 = .ok (.ifCond .ne 11, 3) := dk_154 0 11 (dk_at dksX1_sound_0 1 rfl rfl)
theorem dX1_sound_4 : decode cX1_sound 4 = .ok (.new 22, 3) := dk_187 0 22 (dk_at dksX1_sound_0 4 rfl rfl)
theorem dX1_sound_7 : decode cX1_sound 7 = .ok (.dup, 1) := dk_89 (dk_at dksX1_sound_0 7 rfl rfl)
theorem dX1_sound_8 : decode cX1_sound 8 = .ok (.invokespecial 24, 3) := dk_183 0 24 (dk_at dksX1_sound_0 8 rfl rfl)
theorem dX1_sound_11 : decode cX1_sound 11 = .ok (.athrow, 1) := dk_191 (dk_at dksX1_sound_0 11 rfl rfl)
theorem dX1_sound_12 : decode cX1_sound 12 = .ok (.return_, 1) := dk_177 (dk_at dksX1_sound_0 12 rfl rfl)
abbrev cX1_decimal : ByteArray := prog_1_method_56_code
def yX1_decimal : MethodName := ⟨RX1, "decimal", "(IIIII)I"⟩
def dkwX1_decimal_7 : List UInt8 := [180, 0, 102, 25, 7, 28, 25, 8, 25, 9, 21, 5, 182, 2, 52, 25, 7, 180, 1, 10, 182, 2, 45, 172]
abbrev dktX1_decimal_7 : List UInt8 := dkwX1_decimal_7 ++ []
def dkwX1_decimal_6 : List UInt8 := [161, 0, 18, 21, 5, 16, 8, 108, 17, 1, 44, 163, 0, 7, 4, 167, 0, 4, 3, 184, 0, 146, 42]
abbrev dktX1_decimal_6 : List UInt8 := dkwX1_decimal_6 ++ dktX1_decimal_7
def dkwX1_decimal_5 : List UInt8 := [21, 5, 16, 8, 108, 17, 0, 200, 163, 0, 32, 28, 8, 160, 0, 23, 21, 5, 16, 8, 108, 4]
abbrev dktX1_decimal_5 : List UInt8 := dkwX1_decimal_5 ++ dktX1_decimal_6
def dkwX1_decimal_4 : List UInt8 := [163, 0, 64, 28, 6, 159, 0, 8, 28, 7, 160, 0, 25, 21, 5, 16, 8, 108, 17, 255, 56, 161, 0, 43]
abbrev dktX1_decimal_4 : List UInt8 := dkwX1_decimal_4 ++ dktX1_decimal_5
def dkwX1_decimal_3 : List UInt8 := [167, 0, 14, 42, 21, 4, 16, 12, 182, 0, 170, 192, 0, 213, 58, 9, 28, 155, 0, 70, 28, 16, 7]
abbrev dktX1_decimal_3 : List UInt8 := dkwX1_decimal_3 ++ dktX1_decimal_4
def dkwX1_decimal_2 : List UInt8 := [192, 0, 213, 58, 7, 42, 29, 16, 12, 182, 0, 170, 192, 0, 213, 58, 8, 21, 6, 153, 0, 8, 25, 8]
abbrev dktX1_decimal_2 : List UInt8 := dkwX1_decimal_2 ++ dktX1_decimal_3
def dkwX1_decimal_1 : List UInt8 := [42, 27, 21, 6, 153, 0, 7, 29, 167, 0, 5, 21, 4, 182, 1, 55, 42, 27, 16, 12, 182, 0, 170]
abbrev dktX1_decimal_1 : List UInt8 := dkwX1_decimal_1 ++ dktX1_decimal_2
def dkwX1_decimal_0 : List UInt8 := [28, 7, 161, 0, 13, 28, 16, 6, 163, 0, 7, 4, 167, 0, 4, 3, 54, 6, 42, 27, 29, 182, 1, 55]
abbrev dktX1_decimal_0 : List UInt8 := dkwX1_decimal_0 ++ dktX1_decimal_1
theorem dksX1_decimal_0 : cX1_decimal.data.toList.drop 0 = dktX1_decimal_0 := by decide +kernel
theorem dksX1_decimal_1 : cX1_decimal.data.toList.drop 24 = dktX1_decimal_1 := dk_seg dksX1_decimal_0 24 rfl rfl
theorem dksX1_decimal_2 : cX1_decimal.data.toList.drop 47 = dktX1_decimal_2 := dk_seg dksX1_decimal_1 23 rfl rfl
theorem dksX1_decimal_3 : cX1_decimal.data.toList.drop 71 = dktX1_decimal_3 := dk_seg dksX1_decimal_2 24 rfl rfl
theorem dksX1_decimal_4 : cX1_decimal.data.toList.drop 94 = dktX1_decimal_4 := dk_seg dksX1_decimal_3 23 rfl rfl
theorem dksX1_decimal_5 : cX1_decimal.data.toList.drop 118 = dktX1_decimal_5 := dk_seg dksX1_decimal_4 24 rfl rfl
theorem dksX1_decimal_6 : cX1_decimal.data.toList.drop 140 = dktX1_decimal_6 := dk_seg dksX1_decimal_5 22 rfl rfl
theorem dksX1_decimal_7 : cX1_decimal.data.toList.drop 163 = dktX1_decimal_7 := dk_seg dksX1_decimal_6 23 rfl rfl
theorem dX1_decimal_0 : decode cX1_decimal 0 = .ok (.iload_n 2, 1) := dk_28 (dk_at dksX1_decimal_0 0 rfl rfl)
theorem dX1_decimal_1 : decode cX1_decimal 1 = .ok (.iconst 4, 1) := dk_7 (dk_at dksX1_decimal_0 1 rfl rfl)
theorem dX1_decimal_2 : decode cX1_decimal 2 = .ok (.if_icmp .lt 13, 3) := dk_161 0 13 (dk_at dksX1_decimal_0 2 rfl rfl)
theorem dX1_decimal_5 : decode cX1_decimal 5 = .ok (.iload_n 2, 1) := dk_28 (dk_at dksX1_decimal_0 5 rfl rfl)
theorem dX1_decimal_6 : decode cX1_decimal 6 = .ok (.bipush 6, 2) := dk_16 6 (dk_at dksX1_decimal_0 6 rfl rfl)
theorem dX1_decimal_8 : decode cX1_decimal 8 = .ok (.if_icmp .gt 7, 3) := dk_163 0 7 (dk_at dksX1_decimal_0 8 rfl rfl)
theorem dX1_decimal_11 : decode cX1_decimal 11 = .ok (.iconst 1, 1) := dk_4 (dk_at dksX1_decimal_0 11 rfl rfl)
theorem dX1_decimal_12 : decode cX1_decimal 12 = .ok (.goto 4, 3) := dk_167 0 4 (dk_at dksX1_decimal_0 12 rfl rfl)
theorem dX1_decimal_15 : decode cX1_decimal 15 = .ok (.iconst 0, 1) := dk_3 (dk_at dksX1_decimal_0 15 rfl rfl)
theorem dX1_decimal_16 : decode cX1_decimal 16 = .ok (.istore 6, 2) := dk_54 6 (dk_at dksX1_decimal_0 16 rfl rfl)
theorem dX1_decimal_18 : decode cX1_decimal 18 = .ok (.aload_n 0, 1) := dk_42 (dk_at dksX1_decimal_0 18 rfl rfl)
theorem dX1_decimal_19 : decode cX1_decimal 19 = .ok (.iload_n 1, 1) := dk_27 (dk_at dksX1_decimal_0 19 rfl rfl)
theorem dX1_decimal_20 : decode cX1_decimal 20 = .ok (.iload_n 3, 1) := dk_29 (dk_at dksX1_decimal_0 20 rfl rfl)
theorem dX1_decimal_21 : decode cX1_decimal 21 = .ok (.invokevirtual 311, 3) := dk_182 1 55 (dk_at dksX1_decimal_0 21 rfl rfl)
theorem dX1_decimal_24 : decode cX1_decimal 24 = .ok (.aload_n 0, 1) := dk_42 (dk_at dksX1_decimal_1 0 rfl rfl)
theorem dX1_decimal_25 : decode cX1_decimal 25 = .ok (.iload_n 1, 1) := dk_27 (dk_at dksX1_decimal_1 1 rfl rfl)
theorem dX1_decimal_26 : decode cX1_decimal 26 = .ok (.iload 6, 2) := dk_21 6 (dk_at dksX1_decimal_1 2 rfl rfl)
theorem dX1_decimal_28 : decode cX1_decimal 28 = .ok (.ifCond .eq 7, 3) := dk_153 0 7 (dk_at dksX1_decimal_1 4 rfl rfl)
theorem dX1_decimal_31 : decode cX1_decimal 31 = .ok (.iload_n 3, 1) := dk_29 (dk_at dksX1_decimal_1 7 rfl rfl)
theorem dX1_decimal_32 : decode cX1_decimal 32 = .ok (.goto 5, 3) := dk_167 0 5 (dk_at dksX1_decimal_1 8 rfl rfl)
theorem dX1_decimal_35 : decode cX1_decimal 35 = .ok (.iload 4, 2) := dk_21 4 (dk_at dksX1_decimal_1 11 rfl rfl)
theorem dX1_decimal_37 : decode cX1_decimal 37 = .ok (.invokevirtual 311, 3) := dk_182 1 55 (dk_at dksX1_decimal_1 13 rfl rfl)
theorem dX1_decimal_40 : decode cX1_decimal 40 = .ok (.aload_n 0, 1) := dk_42 (dk_at dksX1_decimal_1 16 rfl rfl)
theorem dX1_decimal_41 : decode cX1_decimal 41 = .ok (.iload_n 1, 1) := dk_27 (dk_at dksX1_decimal_1 17 rfl rfl)
theorem dX1_decimal_42 : decode cX1_decimal 42 = .ok (.bipush 12, 2) := dk_16 12 (dk_at dksX1_decimal_1 18 rfl rfl)
theorem dX1_decimal_44 : decode cX1_decimal 44 = .ok (.invokevirtual 170, 3) := dk_182 0 170 (dk_at dksX1_decimal_1 20 rfl rfl)
theorem dX1_decimal_47 : decode cX1_decimal 47 = .ok (.checkcast 213, 3) := dk_192 0 213 (dk_at dksX1_decimal_2 0 rfl rfl)
theorem dX1_decimal_50 : decode cX1_decimal 50 = .ok (.astore 7, 2) := dk_58 7 (dk_at dksX1_decimal_2 3 rfl rfl)
theorem dX1_decimal_52 : decode cX1_decimal 52 = .ok (.aload_n 0, 1) := dk_42 (dk_at dksX1_decimal_2 5 rfl rfl)
theorem dX1_decimal_53 : decode cX1_decimal 53 = .ok (.iload_n 3, 1) := dk_29 (dk_at dksX1_decimal_2 6 rfl rfl)
theorem dX1_decimal_54 : decode cX1_decimal 54 = .ok (.bipush 12, 2) := dk_16 12 (dk_at dksX1_decimal_2 7 rfl rfl)
theorem dX1_decimal_56 : decode cX1_decimal 56 = .ok (.invokevirtual 170, 3) := dk_182 0 170 (dk_at dksX1_decimal_2 9 rfl rfl)
theorem dX1_decimal_59 : decode cX1_decimal 59 = .ok (.checkcast 213, 3) := dk_192 0 213 (dk_at dksX1_decimal_2 12 rfl rfl)
theorem dX1_decimal_62 : decode cX1_decimal 62 = .ok (.astore 8, 2) := dk_58 8 (dk_at dksX1_decimal_2 15 rfl rfl)
theorem dX1_decimal_64 : decode cX1_decimal 64 = .ok (.iload 6, 2) := dk_21 6 (dk_at dksX1_decimal_2 17 rfl rfl)
theorem dX1_decimal_66 : decode cX1_decimal 66 = .ok (.ifCond .eq 8, 3) := dk_153 0 8 (dk_at dksX1_decimal_2 19 rfl rfl)
theorem dX1_decimal_69 : decode cX1_decimal 69 = .ok (.aload 8, 2) := dk_25 8 (dk_at dksX1_decimal_2 22 rfl rfl)
theorem dX1_decimal_71 : decode cX1_decimal 71 = .ok (.goto 14, 3) := dk_167 0 14 (dk_at dksX1_decimal_3 0 rfl rfl)
theorem dX1_decimal_74 : decode cX1_decimal 74 = .ok (.aload_n 0, 1) := dk_42 (dk_at dksX1_decimal_3 3 rfl rfl)
theorem dX1_decimal_75 : decode cX1_decimal 75 = .ok (.iload 4, 2) := dk_21 4 (dk_at dksX1_decimal_3 4 rfl rfl)
theorem dX1_decimal_77 : decode cX1_decimal 77 = .ok (.bipush 12, 2) := dk_16 12 (dk_at dksX1_decimal_3 6 rfl rfl)
theorem dX1_decimal_79 : decode cX1_decimal 79 = .ok (.invokevirtual 170, 3) := dk_182 0 170 (dk_at dksX1_decimal_3 8 rfl rfl)
theorem dX1_decimal_82 : decode cX1_decimal 82 = .ok (.checkcast 213, 3) := dk_192 0 213 (dk_at dksX1_decimal_3 11 rfl rfl)
theorem dX1_decimal_85 : decode cX1_decimal 85 = .ok (.astore 9, 2) := dk_58 9 (dk_at dksX1_decimal_3 14 rfl rfl)
theorem dX1_decimal_87 : decode cX1_decimal 87 = .ok (.iload_n 2, 1) := dk_28 (dk_at dksX1_decimal_3 16 rfl rfl)
theorem dX1_decimal_88 : decode cX1_decimal 88 = .ok (.ifCond .lt 70, 3) := dk_155 0 70 (dk_at dksX1_decimal_3 17 rfl rfl)
theorem dX1_decimal_91 : decode cX1_decimal 91 = .ok (.iload_n 2, 1) := dk_28 (dk_at dksX1_decimal_3 20 rfl rfl)
theorem dX1_decimal_92 : decode cX1_decimal 92 = .ok (.bipush 7, 2) := dk_16 7 (dk_at dksX1_decimal_3 21 rfl rfl)
theorem dX1_decimal_94 : decode cX1_decimal 94 = .ok (.if_icmp .gt 64, 3) := dk_163 0 64 (dk_at dksX1_decimal_4 0 rfl rfl)
theorem dX1_decimal_97 : decode cX1_decimal 97 = .ok (.iload_n 2, 1) := dk_28 (dk_at dksX1_decimal_4 3 rfl rfl)
theorem dX1_decimal_98 : decode cX1_decimal 98 = .ok (.iconst 3, 1) := dk_6 (dk_at dksX1_decimal_4 4 rfl rfl)
theorem dX1_decimal_99 : decode cX1_decimal 99 = .ok (.if_icmp .eq 8, 3) := dk_159 0 8 (dk_at dksX1_decimal_4 5 rfl rfl)
theorem dX1_decimal_102 : decode cX1_decimal 102 = .ok (.iload_n 2, 1) := dk_28 (dk_at dksX1_decimal_4 8 rfl rfl)
theorem dX1_decimal_103 : decode cX1_decimal 103 = .ok (.iconst 4, 1) := dk_7 (dk_at dksX1_decimal_4 9 rfl rfl)
theorem dX1_decimal_104 : decode cX1_decimal 104 = .ok (.if_icmp .ne 25, 3) := dk_160 0 25 (dk_at dksX1_decimal_4 10 rfl rfl)
theorem dX1_decimal_107 : decode cX1_decimal 107 = .ok (.iload 5, 2) := dk_21 5 (dk_at dksX1_decimal_4 13 rfl rfl)
theorem dX1_decimal_109 : decode cX1_decimal 109 = .ok (.bipush 8, 2) := dk_16 8 (dk_at dksX1_decimal_4 15 rfl rfl)
theorem dX1_decimal_111 : decode cX1_decimal 111 = .ok (.idiv, 1) := dk_108 (dk_at dksX1_decimal_4 17 rfl rfl)
theorem dX1_decimal_112 : decode cX1_decimal 112 = .ok (.sipush (-200), 3) := dk_17 255 56 (dk_at dksX1_decimal_4 18 rfl rfl)
theorem dX1_decimal_115 : decode cX1_decimal 115 = .ok (.if_icmp .lt 43, 3) := dk_161 0 43 (dk_at dksX1_decimal_4 21 rfl rfl)
theorem dX1_decimal_118 : decode cX1_decimal 118 = .ok (.iload 5, 2) := dk_21 5 (dk_at dksX1_decimal_5 0 rfl rfl)
theorem dX1_decimal_120 : decode cX1_decimal 120 = .ok (.bipush 8, 2) := dk_16 8 (dk_at dksX1_decimal_5 2 rfl rfl)
theorem dX1_decimal_122 : decode cX1_decimal 122 = .ok (.idiv, 1) := dk_108 (dk_at dksX1_decimal_5 4 rfl rfl)
theorem dX1_decimal_123 : decode cX1_decimal 123 = .ok (.sipush 200, 3) := dk_17 0 200 (dk_at dksX1_decimal_5 5 rfl rfl)
theorem dX1_decimal_126 : decode cX1_decimal 126 = .ok (.if_icmp .gt 32, 3) := dk_163 0 32 (dk_at dksX1_decimal_5 8 rfl rfl)
theorem dX1_decimal_129 : decode cX1_decimal 129 = .ok (.iload_n 2, 1) := dk_28 (dk_at dksX1_decimal_5 11 rfl rfl)
theorem dX1_decimal_130 : decode cX1_decimal 130 = .ok (.iconst 5, 1) := dk_8 (dk_at dksX1_decimal_5 12 rfl rfl)
theorem dX1_decimal_131 : decode cX1_decimal 131 = .ok (.if_icmp .ne 23, 3) := dk_160 0 23 (dk_at dksX1_decimal_5 13 rfl rfl)
theorem dX1_decimal_134 : decode cX1_decimal 134 = .ok (.iload 5, 2) := dk_21 5 (dk_at dksX1_decimal_5 16 rfl rfl)
theorem dX1_decimal_136 : decode cX1_decimal 136 = .ok (.bipush 8, 2) := dk_16 8 (dk_at dksX1_decimal_5 18 rfl rfl)
theorem dX1_decimal_138 : decode cX1_decimal 138 = .ok (.idiv, 1) := dk_108 (dk_at dksX1_decimal_5 20 rfl rfl)
theorem dX1_decimal_139 : decode cX1_decimal 139 = .ok (.iconst 1, 1) := dk_4 (dk_at dksX1_decimal_5 21 rfl rfl)
theorem dX1_decimal_140 : decode cX1_decimal 140 = .ok (.if_icmp .lt 18, 3) := dk_161 0 18 (dk_at dksX1_decimal_6 0 rfl rfl)
theorem dX1_decimal_143 : decode cX1_decimal 143 = .ok (.iload 5, 2) := dk_21 5 (dk_at dksX1_decimal_6 3 rfl rfl)
theorem dX1_decimal_145 : decode cX1_decimal 145 = .ok (.bipush 8, 2) := dk_16 8 (dk_at dksX1_decimal_6 5 rfl rfl)
theorem dX1_decimal_147 : decode cX1_decimal 147 = .ok (.idiv, 1) := dk_108 (dk_at dksX1_decimal_6 7 rfl rfl)
theorem dX1_decimal_148 : decode cX1_decimal 148 = .ok (.sipush 300, 3) := dk_17 1 44 (dk_at dksX1_decimal_6 8 rfl rfl)
theorem dX1_decimal_151 : decode cX1_decimal 151 = .ok (.if_icmp .gt 7, 3) := dk_163 0 7 (dk_at dksX1_decimal_6 11 rfl rfl)
theorem dX1_decimal_154 : decode cX1_decimal 154 = .ok (.iconst 1, 1) := dk_4 (dk_at dksX1_decimal_6 14 rfl rfl)
theorem dX1_decimal_155 : decode cX1_decimal 155 = .ok (.goto 4, 3) := dk_167 0 4 (dk_at dksX1_decimal_6 15 rfl rfl)
theorem dX1_decimal_158 : decode cX1_decimal 158 = .ok (.iconst 0, 1) := dk_3 (dk_at dksX1_decimal_6 18 rfl rfl)
theorem dX1_decimal_159 : decode cX1_decimal 159 = .ok (.invokestatic 146, 3) := dk_184 0 146 (dk_at dksX1_decimal_6 19 rfl rfl)
theorem dX1_decimal_162 : decode cX1_decimal 162 = .ok (.aload_n 0, 1) := dk_42 (dk_at dksX1_decimal_6 22 rfl rfl)
theorem dX1_decimal_163 : decode cX1_decimal 163 = .ok (.getfield 102, 3) := dk_180 0 102 (dk_at dksX1_decimal_7 0 rfl rfl)
theorem dX1_decimal_166 : decode cX1_decimal 166 = .ok (.aload 7, 2) := dk_25 7 (dk_at dksX1_decimal_7 3 rfl rfl)
theorem dX1_decimal_168 : decode cX1_decimal 168 = .ok (.iload_n 2, 1) := dk_28 (dk_at dksX1_decimal_7 5 rfl rfl)
theorem dX1_decimal_169 : decode cX1_decimal 169 = .ok (.aload 8, 2) := dk_25 8 (dk_at dksX1_decimal_7 6 rfl rfl)
theorem dX1_decimal_171 : decode cX1_decimal 171 = .ok (.aload 9, 2) := dk_25 9 (dk_at dksX1_decimal_7 8 rfl rfl)
theorem dX1_decimal_173 : decode cX1_decimal 173 = .ok (.iload 5, 2) := dk_21 5 (dk_at dksX1_decimal_7 10 rfl rfl)
theorem dX1_decimal_175 : decode cX1_decimal 175 = .ok (.invokevirtual 564, 3) := dk_182 2 52 (dk_at dksX1_decimal_7 12 rfl rfl)
theorem dX1_decimal_178 : decode cX1_decimal 178 = .ok (.aload 7, 2) := dk_25 7 (dk_at dksX1_decimal_7 15 rfl rfl)
theorem dX1_decimal_180 : decode cX1_decimal 180 = .ok (.getfield 266, 3) := dk_180 1 10 (dk_at dksX1_decimal_7 17 rfl rfl)
theorem dX1_decimal_183 : decode cX1_decimal 183 = .ok (.invokevirtual 557, 3) := dk_182 2 45 (dk_at dksX1_decimal_7 20 rfl rfl)
theorem dX1_decimal_186 : decode cX1_decimal 186 = .ok (.ireturn, 1) := dk_172 (dk_at dksX1_decimal_7 23 rfl rfl)
abbrev cX1_tell : ByteArray := prog_1_method_60_code
def yX1_tell : MethodName := ⟨RX1, "tell", "(II)J"⟩
def dkwX1_tell_9 : List UInt8 := [25, 5, 184, 2, 88, 133, 173, 45, 192, 0, 213, 180, 1, 11, 133, 173]
abbrev dktX1_tell_9 : List UInt8 := dkwX1_tell_9 ++ []
def dkwX1_tell_8 : List UInt8 := [20, 2, 83, 127, 129, 173, 42, 180, 0, 93, 25, 5, 182, 2, 85, 133, 173, 25, 5, 184, 2, 68, 133, 173]
abbrev dktX1_tell_8 : List UInt8 := dkwX1_tell_8 ++ dktX1_tell_9
def dkwX1_tell_7 : List UInt8 := [167, 0, 29, 25, 5, 4, 184, 2, 79, 133, 20, 2, 83, 127, 16, 32, 121, 25, 5, 3, 184, 2, 79, 133]
abbrev dktX1_tell_7 : List UInt8 := dkwX1_tell_7 ++ dktX1_tell_8
def dkwX1_tell_6 : List UInt8 := [25, 5, 182, 2, 45, 133, 173, 42, 25, 5, 182, 2, 76, 133, 173, 25, 5, 182, 2, 56, 153, 0, 7, 9]
abbrev dktX1_tell_6 : List UInt8 := dkwX1_tell_6 ++ dktX1_tell_7
def dkwX1_tell_5 : List UInt8 := [170, 0, 0, 0, 0, 117, 0, 0, 0, 0, 0, 0, 0, 5, 0, 0, 0, 38, 0, 0, 0, 45, 0, 0, 0, 53, 0, 0, 0, 92, 0, 0, 0, 103, 0, 0, 0, 110]
abbrev dktX1_tell_5 : List UInt8 := dkwX1_tell_5 ++ dktX1_tell_6
def dkwX1_tell_4 : List UInt8 := [153, 0, 13, 45, 192, 0, 210, 180, 1, 1, 167, 0, 10, 45, 192, 0, 213, 180, 1, 10, 58, 5, 28]
abbrev dktX1_tell_4 : List UInt8 := dkwX1_tell_4 ++ dktX1_tell_5
def dkwX1_tell_3 : List UInt8 := [153, 0, 14, 28, 6, 159, 0, 9, 28, 16, 6, 160, 0, 7, 4, 167, 0, 4, 3, 184, 0, 146, 21, 4]
abbrev dktX1_tell_3 : List UInt8 := dkwX1_tell_3 ++ dktX1_tell_4
def dkwX1_tell_2 : List UInt8 := [21, 4, 153, 0, 20, 28, 155, 0, 12, 28, 8, 163, 0, 7, 4, 167, 0, 27, 3, 167, 0, 23, 28]
abbrev dktX1_tell_2 : List UInt8 := dkwX1_tell_2 ++ dktX1_tell_3
def dkwX1_tell_1 : List UInt8 := [4, 167, 0, 4, 3, 184, 0, 161, 45, 182, 0, 166, 16, 11, 160, 0, 7, 4, 167, 0, 4, 3, 54, 4]
abbrev dktX1_tell_1 : List UInt8 := dkwX1_tell_1 ++ dktX1_tell_2
def dkwX1_tell_0 : List UInt8 := [42, 27, 182, 0, 155, 78, 45, 182, 0, 166, 16, 11, 159, 0, 12, 45, 182, 0, 166, 16, 12, 160, 0, 7]
abbrev dktX1_tell_0 : List UInt8 := dkwX1_tell_0 ++ dktX1_tell_1
theorem dksX1_tell_0 : cX1_tell.data.toList.drop 0 = dktX1_tell_0 := by decide +kernel
theorem dksX1_tell_1 : cX1_tell.data.toList.drop 24 = dktX1_tell_1 := dk_seg dksX1_tell_0 24 rfl rfl
theorem dksX1_tell_2 : cX1_tell.data.toList.drop 48 = dktX1_tell_2 := dk_seg dksX1_tell_1 24 rfl rfl
theorem dksX1_tell_3 : cX1_tell.data.toList.drop 71 = dktX1_tell_3 := dk_seg dksX1_tell_2 23 rfl rfl
theorem dksX1_tell_4 : cX1_tell.data.toList.drop 95 = dktX1_tell_4 := dk_seg dksX1_tell_3 24 rfl rfl
theorem dksX1_tell_5 : cX1_tell.data.toList.drop 118 = dktX1_tell_5 := dk_seg dksX1_tell_4 23 rfl rfl
theorem dksX1_tell_6 : cX1_tell.data.toList.drop 156 = dktX1_tell_6 := dk_seg dksX1_tell_5 38 rfl rfl
theorem dksX1_tell_7 : cX1_tell.data.toList.drop 180 = dktX1_tell_7 := dk_seg dksX1_tell_6 24 rfl rfl
theorem dksX1_tell_8 : cX1_tell.data.toList.drop 204 = dktX1_tell_8 := dk_seg dksX1_tell_7 24 rfl rfl
theorem dksX1_tell_9 : cX1_tell.data.toList.drop 228 = dktX1_tell_9 := dk_seg dksX1_tell_8 24 rfl rfl
theorem dX1_tell_0 : decode cX1_tell 0 = .ok (.aload_n 0, 1) := dk_42 (dk_at dksX1_tell_0 0 rfl rfl)
theorem dX1_tell_1 : decode cX1_tell 1 = .ok (.iload_n 1, 1) := dk_27 (dk_at dksX1_tell_0 1 rfl rfl)
theorem dX1_tell_2 : decode cX1_tell 2 = .ok (.invokevirtual 155, 3) := dk_182 0 155 (dk_at dksX1_tell_0 2 rfl rfl)
theorem dX1_tell_5 : decode cX1_tell 5 = .ok (.astore_n 3, 1) := dk_78 (dk_at dksX1_tell_0 5 rfl rfl)
theorem dX1_tell_6 : decode cX1_tell 6 = .ok (.aload_n 3, 1) := dk_45 (dk_at dksX1_tell_0 6 rfl rfl)
theorem dX1_tell_7 : decode cX1_tell 7 = .ok (.invokevirtual 166, 3) := dk_182 0 166 (dk_at dksX1_tell_0 7 rfl rfl)
theorem dX1_tell_10 : decode cX1_tell 10 = .ok (.bipush 11, 2) := dk_16 11 (dk_at dksX1_tell_0 10 rfl rfl)
theorem dX1_tell_12 : decode cX1_tell 12 = .ok (.if_icmp .eq 12, 3) := dk_159 0 12 (dk_at dksX1_tell_0 12 rfl rfl)
theorem dX1_tell_15 : decode cX1_tell 15 = .ok (.aload_n 3, 1) := dk_45 (dk_at dksX1_tell_0 15 rfl rfl)
theorem dX1_tell_16 : decode cX1_tell 16 = .ok (.invokevirtual 166, 3) := dk_182 0 166 (dk_at dksX1_tell_0 16 rfl rfl)
theorem dX1_tell_19 : decode cX1_tell 19 = .ok (.bipush 12, 2) := dk_16 12 (dk_at dksX1_tell_0 19 rfl rfl)
theorem dX1_tell_21 : decode cX1_tell 21 = .ok (.if_icmp .ne 7, 3) := dk_160 0 7 (dk_at dksX1_tell_0 21 rfl rfl)
theorem dX1_tell_24 : decode cX1_tell 24 = .ok (.iconst 1, 1) := dk_4 (dk_at dksX1_tell_1 0 rfl rfl)
theorem dX1_tell_25 : decode cX1_tell 25 = .ok (.goto 4, 3) := dk_167 0 4 (dk_at dksX1_tell_1 1 rfl rfl)
theorem dX1_tell_28 : decode cX1_tell 28 = .ok (.iconst 0, 1) := dk_3 (dk_at dksX1_tell_1 4 rfl rfl)
theorem dX1_tell_29 : decode cX1_tell 29 = .ok (.invokestatic 161, 3) := dk_184 0 161 (dk_at dksX1_tell_1 5 rfl rfl)
theorem dX1_tell_32 : decode cX1_tell 32 = .ok (.aload_n 3, 1) := dk_45 (dk_at dksX1_tell_1 8 rfl rfl)
theorem dX1_tell_33 : decode cX1_tell 33 = .ok (.invokevirtual 166, 3) := dk_182 0 166 (dk_at dksX1_tell_1 9 rfl rfl)
theorem dX1_tell_36 : decode cX1_tell 36 = .ok (.bipush 11, 2) := dk_16 11 (dk_at dksX1_tell_1 12 rfl rfl)
theorem dX1_tell_38 : decode cX1_tell 38 = .ok (.if_icmp .ne 7, 3) := dk_160 0 7 (dk_at dksX1_tell_1 14 rfl rfl)
theorem dX1_tell_41 : decode cX1_tell 41 = .ok (.iconst 1, 1) := dk_4 (dk_at dksX1_tell_1 17 rfl rfl)
theorem dX1_tell_42 : decode cX1_tell 42 = .ok (.goto 4, 3) := dk_167 0 4 (dk_at dksX1_tell_1 18 rfl rfl)
theorem dX1_tell_45 : decode cX1_tell 45 = .ok (.iconst 0, 1) := dk_3 (dk_at dksX1_tell_1 21 rfl rfl)
theorem dX1_tell_46 : decode cX1_tell 46 = .ok (.istore 4, 2) := dk_54 4 (dk_at dksX1_tell_1 22 rfl rfl)
theorem dX1_tell_48 : decode cX1_tell 48 = .ok (.iload 4, 2) := dk_21 4 (dk_at dksX1_tell_2 0 rfl rfl)
theorem dX1_tell_50 : decode cX1_tell 50 = .ok (.ifCond .eq 20, 3) := dk_153 0 20 (dk_at dksX1_tell_2 2 rfl rfl)
theorem dX1_tell_53 : decode cX1_tell 53 = .ok (.iload_n 2, 1) := dk_28 (dk_at dksX1_tell_2 5 rfl rfl)
theorem dX1_tell_54 : decode cX1_tell 54 = .ok (.ifCond .lt 12, 3) := dk_155 0 12 (dk_at dksX1_tell_2 6 rfl rfl)
theorem dX1_tell_57 : decode cX1_tell 57 = .ok (.iload_n 2, 1) := dk_28 (dk_at dksX1_tell_2 9 rfl rfl)
theorem dX1_tell_58 : decode cX1_tell 58 = .ok (.iconst 5, 1) := dk_8 (dk_at dksX1_tell_2 10 rfl rfl)
theorem dX1_tell_59 : decode cX1_tell 59 = .ok (.if_icmp .gt 7, 3) := dk_163 0 7 (dk_at dksX1_tell_2 11 rfl rfl)
theorem dX1_tell_62 : decode cX1_tell 62 = .ok (.iconst 1, 1) := dk_4 (dk_at dksX1_tell_2 14 rfl rfl)
theorem dX1_tell_63 : decode cX1_tell 63 = .ok (.goto 27, 3) := dk_167 0 27 (dk_at dksX1_tell_2 15 rfl rfl)
theorem dX1_tell_66 : decode cX1_tell 66 = .ok (.iconst 0, 1) := dk_3 (dk_at dksX1_tell_2 18 rfl rfl)
theorem dX1_tell_67 : decode cX1_tell 67 = .ok (.goto 23, 3) := dk_167 0 23 (dk_at dksX1_tell_2 19 rfl rfl)
theorem dX1_tell_70 : decode cX1_tell 70 = .ok (.iload_n 2, 1) := dk_28 (dk_at dksX1_tell_2 22 rfl rfl)
theorem dX1_tell_71 : decode cX1_tell 71 = .ok (.ifCond .eq 14, 3) := dk_153 0 14 (dk_at dksX1_tell_3 0 rfl rfl)
theorem dX1_tell_74 : decode cX1_tell 74 = .ok (.iload_n 2, 1) := dk_28 (dk_at dksX1_tell_3 3 rfl rfl)
theorem dX1_tell_75 : decode cX1_tell 75 = .ok (.iconst 3, 1) := dk_6 (dk_at dksX1_tell_3 4 rfl rfl)
theorem dX1_tell_76 : decode cX1_tell 76 = .ok (.if_icmp .eq 9, 3) := dk_159 0 9 (dk_at dksX1_tell_3 5 rfl rfl)
theorem dX1_tell_79 : decode cX1_tell 79 = .ok (.iload_n 2, 1) := dk_28 (dk_at dksX1_tell_3 8 rfl rfl)
theorem dX1_tell_80 : decode cX1_tell 80 = .ok (.bipush 6, 2) := dk_16 6 (dk_at dksX1_tell_3 9 rfl rfl)
theorem dX1_tell_82 : decode cX1_tell 82 = .ok (.if_icmp .ne 7, 3) := dk_160 0 7 (dk_at dksX1_tell_3 11 rfl rfl)
theorem dX1_tell_85 : decode cX1_tell 85 = .ok (.iconst 1, 1) := dk_4 (dk_at dksX1_tell_3 14 rfl rfl)
theorem dX1_tell_86 : decode cX1_tell 86 = .ok (.goto 4, 3) := dk_167 0 4 (dk_at dksX1_tell_3 15 rfl rfl)
theorem dX1_tell_89 : decode cX1_tell 89 = .ok (.iconst 0, 1) := dk_3 (dk_at dksX1_tell_3 18 rfl rfl)
theorem dX1_tell_90 : decode cX1_tell 90 = .ok (.invokestatic 146, 3) := dk_184 0 146 (dk_at dksX1_tell_3 19 rfl rfl)
theorem dX1_tell_93 : decode cX1_tell 93 = .ok (.iload 4, 2) := dk_21 4 (dk_at dksX1_tell_3 22 rfl rfl)
theorem dX1_tell_95 : decode cX1_tell 95 = .ok (.ifCond .eq 13, 3) := dk_153 0 13 (dk_at dksX1_tell_4 0 rfl rfl)
theorem dX1_tell_98 : decode cX1_tell 98 = .ok (.aload_n 3, 1) := dk_45 (dk_at dksX1_tell_4 3 rfl rfl)
theorem dX1_tell_99 : decode cX1_tell 99 = .ok (.checkcast 210, 3) := dk_192 0 210 (dk_at dksX1_tell_4 4 rfl rfl)
theorem dX1_tell_102 : decode cX1_tell 102 = .ok (.getfield 257, 3) := dk_180 1 1 (dk_at dksX1_tell_4 7 rfl rfl)
theorem dX1_tell_105 : decode cX1_tell 105 = .ok (.goto 10, 3) := dk_167 0 10 (dk_at dksX1_tell_4 10 rfl rfl)
theorem dX1_tell_108 : decode cX1_tell 108 = .ok (.aload_n 3, 1) := dk_45 (dk_at dksX1_tell_4 13 rfl rfl)
theorem dX1_tell_109 : decode cX1_tell 109 = .ok (.checkcast 213, 3) := dk_192 0 213 (dk_at dksX1_tell_4 14 rfl rfl)
theorem dX1_tell_112 : decode cX1_tell 112 = .ok (.getfield 266, 3) := dk_180 1 10 (dk_at dksX1_tell_4 17 rfl rfl)
theorem dX1_tell_115 : decode cX1_tell 115 = .ok (.astore 5, 2) := dk_58 5 (dk_at dksX1_tell_4 20 rfl rfl)
theorem dX1_tell_117 : decode cX1_tell 117 = .ok (.iload_n 2, 1) := dk_28 (dk_at dksX1_tell_4 22 rfl rfl)
theorem dX1_tell_118 : decode cX1_tell 118 = .ok (.tableswitch 117 0 5 #[38, 45, 53, 92, 103, 110], 38) := by decide +kernel
theorem dX1_tell_156 : decode cX1_tell 156 = .ok (.aload 5, 2) := dk_25 5 (dk_at dksX1_tell_6 0 rfl rfl)
theorem dX1_tell_158 : decode cX1_tell 158 = .ok (.invokevirtual 557, 3) := dk_182 2 45 (dk_at dksX1_tell_6 2 rfl rfl)
theorem dX1_tell_161 : decode cX1_tell 161 = .ok (.i2l, 1) := dk_133 (dk_at dksX1_tell_6 5 rfl rfl)
theorem dX1_tell_162 : decode cX1_tell 162 = .ok (.lreturn, 1) := dk_173 (dk_at dksX1_tell_6 6 rfl rfl)
theorem dX1_tell_163 : decode cX1_tell 163 = .ok (.aload_n 0, 1) := dk_42 (dk_at dksX1_tell_6 7 rfl rfl)
theorem dX1_tell_164 : decode cX1_tell 164 = .ok (.aload 5, 2) := dk_25 5 (dk_at dksX1_tell_6 8 rfl rfl)
theorem dX1_tell_166 : decode cX1_tell 166 = .ok (.invokevirtual 588, 3) := dk_182 2 76 (dk_at dksX1_tell_6 10 rfl rfl)
theorem dX1_tell_169 : decode cX1_tell 169 = .ok (.i2l, 1) := dk_133 (dk_at dksX1_tell_6 13 rfl rfl)
theorem dX1_tell_170 : decode cX1_tell 170 = .ok (.lreturn, 1) := dk_173 (dk_at dksX1_tell_6 14 rfl rfl)
theorem dX1_tell_171 : decode cX1_tell 171 = .ok (.aload 5, 2) := dk_25 5 (dk_at dksX1_tell_6 15 rfl rfl)
theorem dX1_tell_173 : decode cX1_tell 173 = .ok (.invokevirtual 568, 3) := dk_182 2 56 (dk_at dksX1_tell_6 17 rfl rfl)
theorem dX1_tell_176 : decode cX1_tell 176 = .ok (.ifCond .eq 7, 3) := dk_153 0 7 (dk_at dksX1_tell_6 20 rfl rfl)
theorem dX1_tell_179 : decode cX1_tell 179 = .ok (.lconst 0, 1) := dk_9 (dk_at dksX1_tell_6 23 rfl rfl)
theorem dX1_tell_180 : decode cX1_tell 180 = .ok (.goto 29, 3) := dk_167 0 29 (dk_at dksX1_tell_7 0 rfl rfl)
theorem dX1_tell_183 : decode cX1_tell 183 = .ok (.aload 5, 2) := dk_25 5 (dk_at dksX1_tell_7 3 rfl rfl)
theorem dX1_tell_185 : decode cX1_tell 185 = .ok (.iconst 1, 1) := dk_4 (dk_at dksX1_tell_7 5 rfl rfl)
theorem dX1_tell_186 : decode cX1_tell 186 = .ok (.invokestatic 591, 3) := dk_184 2 79 (dk_at dksX1_tell_7 6 rfl rfl)
theorem dX1_tell_189 : decode cX1_tell 189 = .ok (.i2l, 1) := dk_133 (dk_at dksX1_tell_7 9 rfl rfl)
theorem dX1_tell_190 : decode cX1_tell 190 = .ok (.ldc2_w 595, 3) := dk_20 2 83 (dk_at dksX1_tell_7 10 rfl rfl)
theorem dX1_tell_193 : decode cX1_tell 193 = .ok (.land, 1) := dk_127 (dk_at dksX1_tell_7 13 rfl rfl)
theorem dX1_tell_194 : decode cX1_tell 194 = .ok (.bipush 32, 2) := dk_16 32 (dk_at dksX1_tell_7 14 rfl rfl)
theorem dX1_tell_196 : decode cX1_tell 196 = .ok (.lshl, 1) := dk_121 (dk_at dksX1_tell_7 16 rfl rfl)
theorem dX1_tell_197 : decode cX1_tell 197 = .ok (.aload 5, 2) := dk_25 5 (dk_at dksX1_tell_7 17 rfl rfl)
theorem dX1_tell_199 : decode cX1_tell 199 = .ok (.iconst 0, 1) := dk_3 (dk_at dksX1_tell_7 19 rfl rfl)
theorem dX1_tell_200 : decode cX1_tell 200 = .ok (.invokestatic 591, 3) := dk_184 2 79 (dk_at dksX1_tell_7 20 rfl rfl)
theorem dX1_tell_203 : decode cX1_tell 203 = .ok (.i2l, 1) := dk_133 (dk_at dksX1_tell_7 23 rfl rfl)
theorem dX1_tell_204 : decode cX1_tell 204 = .ok (.ldc2_w 595, 3) := dk_20 2 83 (dk_at dksX1_tell_8 0 rfl rfl)
theorem dX1_tell_207 : decode cX1_tell 207 = .ok (.land, 1) := dk_127 (dk_at dksX1_tell_8 3 rfl rfl)
theorem dX1_tell_208 : decode cX1_tell 208 = .ok (.lor, 1) := dk_129 (dk_at dksX1_tell_8 4 rfl rfl)
theorem dX1_tell_209 : decode cX1_tell 209 = .ok (.lreturn, 1) := dk_173 (dk_at dksX1_tell_8 5 rfl rfl)
theorem dX1_tell_210 : decode cX1_tell 210 = .ok (.aload_n 0, 1) := dk_42 (dk_at dksX1_tell_8 6 rfl rfl)
theorem dX1_tell_211 : decode cX1_tell 211 = .ok (.getfield 93, 3) := dk_180 0 93 (dk_at dksX1_tell_8 7 rfl rfl)
theorem dX1_tell_214 : decode cX1_tell 214 = .ok (.aload 5, 2) := dk_25 5 (dk_at dksX1_tell_8 10 rfl rfl)
theorem dX1_tell_216 : decode cX1_tell 216 = .ok (.invokevirtual 597, 3) := dk_182 2 85 (dk_at dksX1_tell_8 12 rfl rfl)
theorem dX1_tell_219 : decode cX1_tell 219 = .ok (.i2l, 1) := dk_133 (dk_at dksX1_tell_8 15 rfl rfl)
theorem dX1_tell_220 : decode cX1_tell 220 = .ok (.lreturn, 1) := dk_173 (dk_at dksX1_tell_8 16 rfl rfl)
theorem dX1_tell_221 : decode cX1_tell 221 = .ok (.aload 5, 2) := dk_25 5 (dk_at dksX1_tell_8 17 rfl rfl)
theorem dX1_tell_223 : decode cX1_tell 223 = .ok (.invokestatic 580, 3) := dk_184 2 68 (dk_at dksX1_tell_8 19 rfl rfl)
theorem dX1_tell_226 : decode cX1_tell 226 = .ok (.i2l, 1) := dk_133 (dk_at dksX1_tell_8 22 rfl rfl)
theorem dX1_tell_227 : decode cX1_tell 227 = .ok (.lreturn, 1) := dk_173 (dk_at dksX1_tell_8 23 rfl rfl)
theorem dX1_tell_228 : decode cX1_tell 228 = .ok (.aload 5, 2) := dk_25 5 (dk_at dksX1_tell_9 0 rfl rfl)
theorem dX1_tell_230 : decode cX1_tell 230 = .ok (.invokestatic 600, 3) := dk_184 2 88 (dk_at dksX1_tell_9 2 rfl rfl)
theorem dX1_tell_233 : decode cX1_tell 233 = .ok (.i2l, 1) := dk_133 (dk_at dksX1_tell_9 5 rfl rfl)
theorem dX1_tell_234 : decode cX1_tell 234 = .ok (.lreturn, 1) := dk_173 (dk_at dksX1_tell_9 6 rfl rfl)
theorem dX1_tell_235 : decode cX1_tell 235 = .ok (.aload_n 3, 1) := dk_45 (dk_at dksX1_tell_9 7 rfl rfl)
theorem dX1_tell_236 : decode cX1_tell 236 = .ok (.checkcast 213, 3) := dk_192 0 213 (dk_at dksX1_tell_9 8 rfl rfl)
theorem dX1_tell_239 : decode cX1_tell 239 = .ok (.getfield 267, 3) := dk_180 1 11 (dk_at dksX1_tell_9 11 rfl rfl)
theorem dX1_tell_242 : decode cX1_tell 242 = .ok (.i2l, 1) := dk_133 (dk_at dksX1_tell_9 14 rfl rfl)
theorem dX1_tell_243 : decode cX1_tell 243 = .ok (.lreturn, 1) := dk_173 (dk_at dksX1_tell_9 15 rfl rfl)
abbrev cX1_bitsOf : ByteArray := prog_1_method_58_code
def yX1_bitsOf : MethodName := ⟨RX1, "bitsOf", "(LLibraryDesk$Big;)I"⟩
def dkwX1_bitsOf_1 : List UInt8 := [160, 0, 12, 43, 182, 2, 66, 4, 100, 167, 0, 7, 43, 182, 2, 66, 172]
abbrev dktX1_bitsOf_1 : List UInt8 := dkwX1_bitsOf_1 ++ []
def dkwX1_bitsOf_0 : List UInt8 := [43, 180, 2, 63, 154, 0, 8, 43, 182, 2, 66, 172, 43, 184, 2, 68, 43, 182, 2, 66, 4, 100]
abbrev dktX1_bitsOf_0 : List UInt8 := dkwX1_bitsOf_0 ++ dktX1_bitsOf_1
theorem dksX1_bitsOf_0 : cX1_bitsOf.data.toList.drop 0 = dktX1_bitsOf_0 := by decide +kernel
theorem dksX1_bitsOf_1 : cX1_bitsOf.data.toList.drop 22 = dktX1_bitsOf_1 := dk_seg dksX1_bitsOf_0 22 rfl rfl
theorem dX1_bitsOf_0 : decode cX1_bitsOf 0 = .ok (.aload_n 1, 1) := dk_43 (dk_at dksX1_bitsOf_0 0 rfl rfl)
theorem dX1_bitsOf_1 : decode cX1_bitsOf 1 = .ok (.getfield 575, 3) := dk_180 2 63 (dk_at dksX1_bitsOf_0 1 rfl rfl)
theorem dX1_bitsOf_4 : decode cX1_bitsOf 4 = .ok (.ifCond .ne 8, 3) := dk_154 0 8 (dk_at dksX1_bitsOf_0 4 rfl rfl)
theorem dX1_bitsOf_7 : decode cX1_bitsOf 7 = .ok (.aload_n 1, 1) := dk_43 (dk_at dksX1_bitsOf_0 7 rfl rfl)
theorem dX1_bitsOf_8 : decode cX1_bitsOf 8 = .ok (.invokevirtual 578, 3) := dk_182 2 66 (dk_at dksX1_bitsOf_0 8 rfl rfl)
theorem dX1_bitsOf_11 : decode cX1_bitsOf 11 = .ok (.ireturn, 1) := dk_172 (dk_at dksX1_bitsOf_0 11 rfl rfl)
theorem dX1_bitsOf_12 : decode cX1_bitsOf 12 = .ok (.aload_n 1, 1) := dk_43 (dk_at dksX1_bitsOf_0 12 rfl rfl)
theorem dX1_bitsOf_13 : decode cX1_bitsOf 13 = .ok (.invokestatic 580, 3) := dk_184 2 68 (dk_at dksX1_bitsOf_0 13 rfl rfl)
theorem dX1_bitsOf_16 : decode cX1_bitsOf 16 = .ok (.aload_n 1, 1) := dk_43 (dk_at dksX1_bitsOf_0 16 rfl rfl)
theorem dX1_bitsOf_17 : decode cX1_bitsOf 17 = .ok (.invokevirtual 578, 3) := dk_182 2 66 (dk_at dksX1_bitsOf_0 17 rfl rfl)
theorem dX1_bitsOf_20 : decode cX1_bitsOf 20 = .ok (.iconst 1, 1) := dk_4 (dk_at dksX1_bitsOf_0 20 rfl rfl)
theorem dX1_bitsOf_21 : decode cX1_bitsOf 21 = .ok (.isub, 1) := dk_100 (dk_at dksX1_bitsOf_0 21 rfl rfl)
theorem dX1_bitsOf_22 : decode cX1_bitsOf 22 = .ok (.if_icmp .ne 12, 3) := dk_160 0 12 (dk_at dksX1_bitsOf_1 0 rfl rfl)
theorem dX1_bitsOf_25 : decode cX1_bitsOf 25 = .ok (.aload_n 1, 1) := dk_43 (dk_at dksX1_bitsOf_1 3 rfl rfl)
theorem dX1_bitsOf_26 : decode cX1_bitsOf 26 = .ok (.invokevirtual 578, 3) := dk_182 2 66 (dk_at dksX1_bitsOf_1 4 rfl rfl)
theorem dX1_bitsOf_29 : decode cX1_bitsOf 29 = .ok (.iconst 1, 1) := dk_4 (dk_at dksX1_bitsOf_1 7 rfl rfl)
theorem dX1_bitsOf_30 : decode cX1_bitsOf 30 = .ok (.isub, 1) := dk_100 (dk_at dksX1_bitsOf_1 8 rfl rfl)
theorem dX1_bitsOf_31 : decode cX1_bitsOf 31 = .ok (.goto 7, 3) := dk_167 0 7 (dk_at dksX1_bitsOf_1 9 rfl rfl)
theorem dX1_bitsOf_34 : decode cX1_bitsOf 34 = .ok (.aload_n 1, 1) := dk_43 (dk_at dksX1_bitsOf_1 12 rfl rfl)
theorem dX1_bitsOf_35 : decode cX1_bitsOf 35 = .ok (.invokevirtual 578, 3) := dk_182 2 66 (dk_at dksX1_bitsOf_1 13 rfl rfl)
theorem dX1_bitsOf_38 : decode cX1_bitsOf 38 = .ok (.ireturn, 1) := dk_172 (dk_at dksX1_bitsOf_1 16 rfl rfl)
abbrev cX1_zeros : ByteArray := prog_1_method_57_code
def yX1_zeros : MethodName := ⟨RX1, "zeros", "(LLibraryDesk$Big;)I"⟩
def dkwX1_zeros_1 : List UInt8 := [167, 255, 245, 27, 172]
abbrev dktX1_zeros_1 : List UInt8 := dkwX1_zeros_1 ++ []
def dkwX1_zeros_0 : List UInt8 := [42, 182, 2, 56, 153, 0, 5, 2, 172, 3, 60, 42, 27, 182, 2, 60, 154, 0, 9, 132, 1, 1]
abbrev dktX1_zeros_0 : List UInt8 := dkwX1_zeros_0 ++ dktX1_zeros_1
theorem dksX1_zeros_0 : cX1_zeros.data.toList.drop 0 = dktX1_zeros_0 := by decide +kernel
theorem dksX1_zeros_1 : cX1_zeros.data.toList.drop 22 = dktX1_zeros_1 := dk_seg dksX1_zeros_0 22 rfl rfl
theorem dX1_zeros_0 : decode cX1_zeros 0 = .ok (.aload_n 0, 1) := dk_42 (dk_at dksX1_zeros_0 0 rfl rfl)
theorem dX1_zeros_1 : decode cX1_zeros 1 = .ok (.invokevirtual 568, 3) := dk_182 2 56 (dk_at dksX1_zeros_0 1 rfl rfl)
theorem dX1_zeros_4 : decode cX1_zeros 4 = .ok (.ifCond .eq 5, 3) := dk_153 0 5 (dk_at dksX1_zeros_0 4 rfl rfl)
theorem dX1_zeros_7 : decode cX1_zeros 7 = .ok (.iconst (-1), 1) := dk_2 (dk_at dksX1_zeros_0 7 rfl rfl)
theorem dX1_zeros_8 : decode cX1_zeros 8 = .ok (.ireturn, 1) := dk_172 (dk_at dksX1_zeros_0 8 rfl rfl)
theorem dX1_zeros_9 : decode cX1_zeros 9 = .ok (.iconst 0, 1) := dk_3 (dk_at dksX1_zeros_0 9 rfl rfl)
theorem dX1_zeros_10 : decode cX1_zeros 10 = .ok (.istore_n 1, 1) := dk_60 (dk_at dksX1_zeros_0 10 rfl rfl)
theorem dX1_zeros_11 : decode cX1_zeros 11 = .ok (.aload_n 0, 1) := dk_42 (dk_at dksX1_zeros_0 11 rfl rfl)
theorem dX1_zeros_12 : decode cX1_zeros 12 = .ok (.iload_n 1, 1) := dk_27 (dk_at dksX1_zeros_0 12 rfl rfl)
theorem dX1_zeros_13 : decode cX1_zeros 13 = .ok (.invokevirtual 572, 3) := dk_182 2 60 (dk_at dksX1_zeros_0 13 rfl rfl)
theorem dX1_zeros_16 : decode cX1_zeros 16 = .ok (.ifCond .ne 9, 3) := dk_154 0 9 (dk_at dksX1_zeros_0 16 rfl rfl)
theorem dX1_zeros_19 : decode cX1_zeros 19 = .ok (.iinc 1 1, 3) := dk_132 1 1 (dk_at dksX1_zeros_0 19 rfl rfl)
theorem dX1_zeros_22 : decode cX1_zeros 22 = .ok (.goto (-11), 3) := dk_167 255 245 (dk_at dksX1_zeros_1 0 rfl rfl)
theorem dX1_zeros_25 : decode cX1_zeros 25 = .ok (.iload_n 1, 1) := dk_27 (dk_at dksX1_zeros_1 3 rfl rfl)
theorem dX1_zeros_26 : decode cX1_zeros 26 = .ok (.ireturn, 1) := dk_172 (dk_at dksX1_zeros_1 4 rfl rfl)
abbrev cX1_isPrime : ByteArray := prog_1_method_59_code
def yX1_isPrime : MethodName := ⟨RX1, "isPrime", "(LLibraryDesk$Big;)I"⟩
def dkwX1_isPrime_2 : List UInt8 := [157, 0, 17, 27, 28, 112, 154, 0, 5, 3, 172, 132, 2, 1, 167, 255, 234, 4, 172]
abbrev dktX1_isPrime_2 : List UInt8 := dkwX1_isPrime_2 ++ []
def dkwX1_isPrime_1 : List UInt8 := [162, 0, 5, 3, 172, 42, 180, 2, 73, 3, 46, 60, 5, 61, 28, 133, 28, 133, 105, 27, 133, 148]
abbrev dktX1_isPrime_1 : List UInt8 := dkwX1_isPrime_1 ++ dktX1_isPrime_2
def dkwX1_isPrime_0 : List UInt8 := [42, 180, 2, 63, 154, 0, 21, 42, 180, 2, 72, 4, 160, 0, 13, 42, 180, 2, 73, 3, 46, 5]
abbrev dktX1_isPrime_0 : List UInt8 := dkwX1_isPrime_0 ++ dktX1_isPrime_1
theorem dksX1_isPrime_0 : cX1_isPrime.data.toList.drop 0 = dktX1_isPrime_0 := by decide +kernel
theorem dksX1_isPrime_1 : cX1_isPrime.data.toList.drop 22 = dktX1_isPrime_1 := dk_seg dksX1_isPrime_0 22 rfl rfl
theorem dksX1_isPrime_2 : cX1_isPrime.data.toList.drop 44 = dktX1_isPrime_2 := dk_seg dksX1_isPrime_1 22 rfl rfl
theorem dX1_isPrime_0 : decode cX1_isPrime 0 = .ok (.aload_n 0, 1) := dk_42 (dk_at dksX1_isPrime_0 0 rfl rfl)
theorem dX1_isPrime_1 : decode cX1_isPrime 1 = .ok (.getfield 575, 3) := dk_180 2 63 (dk_at dksX1_isPrime_0 1 rfl rfl)
theorem dX1_isPrime_4 : decode cX1_isPrime 4 = .ok (.ifCond .ne 21, 3) := dk_154 0 21 (dk_at dksX1_isPrime_0 4 rfl rfl)
theorem dX1_isPrime_7 : decode cX1_isPrime 7 = .ok (.aload_n 0, 1) := dk_42 (dk_at dksX1_isPrime_0 7 rfl rfl)
theorem dX1_isPrime_8 : decode cX1_isPrime 8 = .ok (.getfield 584, 3) := dk_180 2 72 (dk_at dksX1_isPrime_0 8 rfl rfl)
theorem dX1_isPrime_11 : decode cX1_isPrime 11 = .ok (.iconst 1, 1) := dk_4 (dk_at dksX1_isPrime_0 11 rfl rfl)
theorem dX1_isPrime_12 : decode cX1_isPrime 12 = .ok (.if_icmp .ne 13, 3) := dk_160 0 13 (dk_at dksX1_isPrime_0 12 rfl rfl)
theorem dX1_isPrime_15 : decode cX1_isPrime 15 = .ok (.aload_n 0, 1) := dk_42 (dk_at dksX1_isPrime_0 15 rfl rfl)
theorem dX1_isPrime_16 : decode cX1_isPrime 16 = .ok (.getfield 585, 3) := dk_180 2 73 (dk_at dksX1_isPrime_0 16 rfl rfl)
theorem dX1_isPrime_19 : decode cX1_isPrime 19 = .ok (.iconst 0, 1) := dk_3 (dk_at dksX1_isPrime_0 19 rfl rfl)
theorem dX1_isPrime_20 : decode cX1_isPrime 20 = .ok (.iaload, 1) := dk_46 (dk_at dksX1_isPrime_0 20 rfl rfl)
theorem dX1_isPrime_21 : decode cX1_isPrime 21 = .ok (.iconst 2, 1) := dk_5 (dk_at dksX1_isPrime_0 21 rfl rfl)
theorem dX1_isPrime_22 : decode cX1_isPrime 22 = .ok (.if_icmp .ge 5, 3) := dk_162 0 5 (dk_at dksX1_isPrime_1 0 rfl rfl)
theorem dX1_isPrime_25 : decode cX1_isPrime 25 = .ok (.iconst 0, 1) := dk_3 (dk_at dksX1_isPrime_1 3 rfl rfl)
theorem dX1_isPrime_26 : decode cX1_isPrime 26 = .ok (.ireturn, 1) := dk_172 (dk_at dksX1_isPrime_1 4 rfl rfl)
theorem dX1_isPrime_27 : decode cX1_isPrime 27 = .ok (.aload_n 0, 1) := dk_42 (dk_at dksX1_isPrime_1 5 rfl rfl)
theorem dX1_isPrime_28 : decode cX1_isPrime 28 = .ok (.getfield 585, 3) := dk_180 2 73 (dk_at dksX1_isPrime_1 6 rfl rfl)
theorem dX1_isPrime_31 : decode cX1_isPrime 31 = .ok (.iconst 0, 1) := dk_3 (dk_at dksX1_isPrime_1 9 rfl rfl)
theorem dX1_isPrime_32 : decode cX1_isPrime 32 = .ok (.iaload, 1) := dk_46 (dk_at dksX1_isPrime_1 10 rfl rfl)
theorem dX1_isPrime_33 : decode cX1_isPrime 33 = .ok (.istore_n 1, 1) := dk_60 (dk_at dksX1_isPrime_1 11 rfl rfl)
theorem dX1_isPrime_34 : decode cX1_isPrime 34 = .ok (.iconst 2, 1) := dk_5 (dk_at dksX1_isPrime_1 12 rfl rfl)
theorem dX1_isPrime_35 : decode cX1_isPrime 35 = .ok (.istore_n 2, 1) := dk_61 (dk_at dksX1_isPrime_1 13 rfl rfl)
theorem dX1_isPrime_36 : decode cX1_isPrime 36 = .ok (.iload_n 2, 1) := dk_28 (dk_at dksX1_isPrime_1 14 rfl rfl)
theorem dX1_isPrime_37 : decode cX1_isPrime 37 = .ok (.i2l, 1) := dk_133 (dk_at dksX1_isPrime_1 15 rfl rfl)
theorem dX1_isPrime_38 : decode cX1_isPrime 38 = .ok (.iload_n 2, 1) := dk_28 (dk_at dksX1_isPrime_1 16 rfl rfl)
theorem dX1_isPrime_39 : decode cX1_isPrime 39 = .ok (.i2l, 1) := dk_133 (dk_at dksX1_isPrime_1 17 rfl rfl)
theorem dX1_isPrime_40 : decode cX1_isPrime 40 = .ok (.lmul, 1) := dk_105 (dk_at dksX1_isPrime_1 18 rfl rfl)
theorem dX1_isPrime_41 : decode cX1_isPrime 41 = .ok (.iload_n 1, 1) := dk_27 (dk_at dksX1_isPrime_1 19 rfl rfl)
theorem dX1_isPrime_42 : decode cX1_isPrime 42 = .ok (.i2l, 1) := dk_133 (dk_at dksX1_isPrime_1 20 rfl rfl)
theorem dX1_isPrime_43 : decode cX1_isPrime 43 = .ok (.lcmp, 1) := dk_148 (dk_at dksX1_isPrime_1 21 rfl rfl)
theorem dX1_isPrime_44 : decode cX1_isPrime 44 = .ok (.ifCond .gt 17, 3) := dk_157 0 17 (dk_at dksX1_isPrime_2 0 rfl rfl)
theorem dX1_isPrime_47 : decode cX1_isPrime 47 = .ok (.iload_n 1, 1) := dk_27 (dk_at dksX1_isPrime_2 3 rfl rfl)
theorem dX1_isPrime_48 : decode cX1_isPrime 48 = .ok (.iload_n 2, 1) := dk_28 (dk_at dksX1_isPrime_2 4 rfl rfl)
theorem dX1_isPrime_49 : decode cX1_isPrime 49 = .ok (.irem, 1) := dk_112 (dk_at dksX1_isPrime_2 5 rfl rfl)
theorem dX1_isPrime_50 : decode cX1_isPrime 50 = .ok (.ifCond .ne 5, 3) := dk_154 0 5 (dk_at dksX1_isPrime_2 6 rfl rfl)
theorem dX1_isPrime_53 : decode cX1_isPrime 53 = .ok (.iconst 0, 1) := dk_3 (dk_at dksX1_isPrime_2 9 rfl rfl)
theorem dX1_isPrime_54 : decode cX1_isPrime 54 = .ok (.ireturn, 1) := dk_172 (dk_at dksX1_isPrime_2 10 rfl rfl)
theorem dX1_isPrime_55 : decode cX1_isPrime 55 = .ok (.iinc 2 1, 3) := dk_132 2 1 (dk_at dksX1_isPrime_2 11 rfl rfl)
theorem dX1_isPrime_58 : decode cX1_isPrime 58 = .ok (.goto (-22), 3) := dk_167 255 234 (dk_at dksX1_isPrime_2 14 rfl rfl)
theorem dX1_isPrime_61 : decode cX1_isPrime 61 = .ok (.iconst 1, 1) := dk_4 (dk_at dksX1_isPrime_2 17 rfl rfl)
theorem dX1_isPrime_62 : decode cX1_isPrime 62 = .ok (.ireturn, 1) := dk_172 (dk_at dksX1_isPrime_2 18 rfl rfl)
abbrev cX1_order : ByteArray := prog_1_method_61_code
def yX1_order : MethodName := ⟨RX1, "orde\x72", "(II)I"⟩
def dkwX1_order_4 : List UInt8 := [182, 2, 94, 172]
abbrev dktX1_order_4 : List UInt8 := dkwX1_order_4 ++ []
def dkwX1_order_3 : List UInt8 := [192, 0, 210, 180, 1, 1, 184, 2, 91, 172, 42, 180, 0, 102, 45, 192, 0, 213, 25, 4, 192, 0, 213]
abbrev dktX1_order_3 : List UInt8 := dkwX1_order_3 ++ dktX1_order_4
def dkwX1_order_2 : List UInt8 := [182, 0, 170, 58, 4, 45, 182, 0, 166, 16, 11, 160, 0, 22, 45, 192, 0, 210, 180, 1, 1, 25, 4]
abbrev dktX1_order_2 : List UInt8 := dkwX1_order_2 ++ dktX1_order_3
def dkwX1_order_1 : List UInt8 := [182, 0, 166, 16, 12, 160, 0, 7, 4, 167, 0, 4, 3, 184, 0, 161, 42, 28, 45, 182, 0, 166]
abbrev dktX1_order_1 : List UInt8 := dkwX1_order_1 ++ dktX1_order_2
def dkwX1_order_0 : List UInt8 := [42, 27, 28, 182, 1, 55, 42, 27, 182, 0, 155, 78, 45, 182, 0, 166, 16, 11, 159, 0, 12, 45]
abbrev dktX1_order_0 : List UInt8 := dkwX1_order_0 ++ dktX1_order_1
theorem dksX1_order_0 : cX1_order.data.toList.drop 0 = dktX1_order_0 := by decide +kernel
theorem dksX1_order_1 : cX1_order.data.toList.drop 22 = dktX1_order_1 := dk_seg dksX1_order_0 22 rfl rfl
theorem dksX1_order_2 : cX1_order.data.toList.drop 44 = dktX1_order_2 := dk_seg dksX1_order_1 22 rfl rfl
theorem dksX1_order_3 : cX1_order.data.toList.drop 67 = dktX1_order_3 := dk_seg dksX1_order_2 23 rfl rfl
theorem dksX1_order_4 : cX1_order.data.toList.drop 90 = dktX1_order_4 := dk_seg dksX1_order_3 23 rfl rfl
theorem dX1_order_0 : decode cX1_order 0 = .ok (.aload_n 0, 1) := dk_42 (dk_at dksX1_order_0 0 rfl rfl)
theorem dX1_order_1 : decode cX1_order 1 = .ok (.iload_n 1, 1) := dk_27 (dk_at dksX1_order_0 1 rfl rfl)
theorem dX1_order_2 : decode cX1_order 2 = .ok (.iload_n 2, 1) := dk_28 (dk_at dksX1_order_0 2 rfl rfl)
theorem dX1_order_3 : decode cX1_order 3 = .ok (.invokevirtual 311, 3) := dk_182 1 55 (dk_at dksX1_order_0 3 rfl rfl)
theorem dX1_order_6 : decode cX1_order 6 = .ok (.aload_n 0, 1) := dk_42 (dk_at dksX1_order_0 6 rfl rfl)
theorem dX1_order_7 : decode cX1_order 7 = .ok (.iload_n 1, 1) := dk_27 (dk_at dksX1_order_0 7 rfl rfl)
theorem dX1_order_8 : decode cX1_order 8 = .ok (.invokevirtual 155, 3) := dk_182 0 155 (dk_at dksX1_order_0 8 rfl rfl)
theorem dX1_order_11 : decode cX1_order 11 = .ok (.astore_n 3, 1) := dk_78 (dk_at dksX1_order_0 11 rfl rfl)
theorem dX1_order_12 : decode cX1_order 12 = .ok (.aload_n 3, 1) := dk_45 (dk_at dksX1_order_0 12 rfl rfl)
theorem dX1_order_13 : decode cX1_order 13 = .ok (.invokevirtual 166, 3) := dk_182 0 166 (dk_at dksX1_order_0 13 rfl rfl)
theorem dX1_order_16 : decode cX1_order 16 = .ok (.bipush 11, 2) := dk_16 11 (dk_at dksX1_order_0 16 rfl rfl)
theorem dX1_order_18 : decode cX1_order 18 = .ok (.if_icmp .eq 12, 3) := dk_159 0 12 (dk_at dksX1_order_0 18 rfl rfl)
theorem dX1_order_21 : decode cX1_order 21 = .ok (.aload_n 3, 1) := dk_45 (dk_at dksX1_order_0 21 rfl rfl)
theorem dX1_order_22 : decode cX1_order 22 = .ok (.invokevirtual 166, 3) := dk_182 0 166 (dk_at dksX1_order_1 0 rfl rfl)
theorem dX1_order_25 : decode cX1_order 25 = .ok (.bipush 12, 2) := dk_16 12 (dk_at dksX1_order_1 3 rfl rfl)
theorem dX1_order_27 : decode cX1_order 27 = .ok (.if_icmp .ne 7, 3) := dk_160 0 7 (dk_at dksX1_order_1 5 rfl rfl)
theorem dX1_order_30 : decode cX1_order 30 = .ok (.iconst 1, 1) := dk_4 (dk_at dksX1_order_1 8 rfl rfl)
theorem dX1_order_31 : decode cX1_order 31 = .ok (.goto 4, 3) := dk_167 0 4 (dk_at dksX1_order_1 9 rfl rfl)
theorem dX1_order_34 : decode cX1_order 34 = .ok (.iconst 0, 1) := dk_3 (dk_at dksX1_order_1 12 rfl rfl)
theorem dX1_order_35 : decode cX1_order 35 = .ok (.invokestatic 161, 3) := dk_184 0 161 (dk_at dksX1_order_1 13 rfl rfl)
theorem dX1_order_38 : decode cX1_order 38 = .ok (.aload_n 0, 1) := dk_42 (dk_at dksX1_order_1 16 rfl rfl)
theorem dX1_order_39 : decode cX1_order 39 = .ok (.iload_n 2, 1) := dk_28 (dk_at dksX1_order_1 17 rfl rfl)
theorem dX1_order_40 : decode cX1_order 40 = .ok (.aload_n 3, 1) := dk_45 (dk_at dksX1_order_1 18 rfl rfl)
theorem dX1_order_41 : decode cX1_order 41 = .ok (.invokevirtual 166, 3) := dk_182 0 166 (dk_at dksX1_order_1 19 rfl rfl)
theorem dX1_order_44 : decode cX1_order 44 = .ok (.invokevirtual 170, 3) := dk_182 0 170 (dk_at dksX1_order_2 0 rfl rfl)
theorem dX1_order_47 : decode cX1_order 47 = .ok (.astore 4, 2) := dk_58 4 (dk_at dksX1_order_2 3 rfl rfl)
theorem dX1_order_49 : decode cX1_order 49 = .ok (.aload_n 3, 1) := dk_45 (dk_at dksX1_order_2 5 rfl rfl)
theorem dX1_order_50 : decode cX1_order 50 = .ok (.invokevirtual 166, 3) := dk_182 0 166 (dk_at dksX1_order_2 6 rfl rfl)
theorem dX1_order_53 : decode cX1_order 53 = .ok (.bipush 11, 2) := dk_16 11 (dk_at dksX1_order_2 9 rfl rfl)
theorem dX1_order_55 : decode cX1_order 55 = .ok (.if_icmp .ne 22, 3) := dk_160 0 22 (dk_at dksX1_order_2 11 rfl rfl)
theorem dX1_order_58 : decode cX1_order 58 = .ok (.aload_n 3, 1) := dk_45 (dk_at dksX1_order_2 14 rfl rfl)
theorem dX1_order_59 : decode cX1_order 59 = .ok (.checkcast 210, 3) := dk_192 0 210 (dk_at dksX1_order_2 15 rfl rfl)
theorem dX1_order_62 : decode cX1_order 62 = .ok (.getfield 257, 3) := dk_180 1 1 (dk_at dksX1_order_2 18 rfl rfl)
theorem dX1_order_65 : decode cX1_order 65 = .ok (.aload 4, 2) := dk_25 4 (dk_at dksX1_order_2 21 rfl rfl)
theorem dX1_order_67 : decode cX1_order 67 = .ok (.checkcast 210, 3) := dk_192 0 210 (dk_at dksX1_order_3 0 rfl rfl)
theorem dX1_order_70 : decode cX1_order 70 = .ok (.getfield 257, 3) := dk_180 1 1 (dk_at dksX1_order_3 3 rfl rfl)
theorem dX1_order_73 : decode cX1_order 73 = .ok (.invokestatic 603, 3) := dk_184 2 91 (dk_at dksX1_order_3 6 rfl rfl)
theorem dX1_order_76 : decode cX1_order 76 = .ok (.ireturn, 1) := dk_172 (dk_at dksX1_order_3 9 rfl rfl)
theorem dX1_order_77 : decode cX1_order 77 = .ok (.aload_n 0, 1) := dk_42 (dk_at dksX1_order_3 10 rfl rfl)
theorem dX1_order_78 : decode cX1_order 78 = .ok (.getfield 102, 3) := dk_180 0 102 (dk_at dksX1_order_3 11 rfl rfl)
theorem dX1_order_81 : decode cX1_order 81 = .ok (.aload_n 3, 1) := dk_45 (dk_at dksX1_order_3 14 rfl rfl)
theorem dX1_order_82 : decode cX1_order 82 = .ok (.checkcast 213, 3) := dk_192 0 213 (dk_at dksX1_order_3 15 rfl rfl)
theorem dX1_order_85 : decode cX1_order 85 = .ok (.aload 4, 2) := dk_25 4 (dk_at dksX1_order_3 18 rfl rfl)
theorem dX1_order_87 : decode cX1_order 87 = .ok (.checkcast 213, 3) := dk_192 0 213 (dk_at dksX1_order_3 20 rfl rfl)
theorem dX1_order_90 : decode cX1_order 90 = .ok (.invokevirtual 606, 3) := dk_182 2 94 (dk_at dksX1_order_4 0 rfl rfl)
theorem dX1_order_93 : decode cX1_order 93 = .ok (.ireturn, 1) := dk_172 (dk_at dksX1_order_4 3 rfl rfl)
abbrev cX1_read : ByteArray := prog_1_method_62_code
def yX1_read : MethodName := ⟨RX1, "read", "(II)I"⟩
def dkwX1_read_8 : List UInt8 := [180, 2, 105, 182, 2, 111, 25, 4, 192, 0, 213, 42, 180, 0, 109, 180, 2, 113, 181, 1, 11, 29, 172]
abbrev dktX1_read_8 : List UInt8 := dkwX1_read_8 ++ []
def dkwX1_read_7 : List UInt8 := [180, 0, 109, 180, 2, 105, 182, 2, 111, 167, 0, 36, 25, 4, 192, 0, 213, 180, 1, 10, 42, 180, 0, 109]
abbrev dktX1_read_7 : List UInt8 := dkwX1_read_7 ++ dktX1_read_8
def dkwX1_read_6 : List UInt8 := [21, 5, 153, 0, 34, 42, 180, 0, 109, 180, 2, 105, 184, 2, 108, 25, 4, 192, 0, 210, 180, 1, 1, 42]
abbrev dktX1_read_6 : List UInt8 := dkwX1_read_6 ++ dktX1_read_7
def dkwX1_read_5 : List UInt8 := [42, 180, 0, 109, 42, 180, 0, 31, 29, 182, 2, 101, 167, 0, 12, 58, 6, 42, 25, 6, 182, 1, 240, 191]
abbrev dktX1_read_5 : List UInt8 := dkwX1_read_5 ++ dktX1_read_6
def dkwX1_read_4 : List UInt8 := [184, 0, 146, 21, 5, 153, 0, 19, 42, 180, 0, 109, 42, 180, 0, 31, 29, 28, 182, 2, 97, 167, 0, 15]
abbrev dktX1_read_4 : List UInt8 := dkwX1_read_4 ++ dktX1_read_5
def dkwX1_read_3 : List UInt8 := [163, 0, 7, 4, 167, 0, 18, 3, 167, 0, 14, 28, 16, 10, 160, 0, 7, 4, 167, 0, 4, 3]
abbrev dktX1_read_3 : List UInt8 := dkwX1_read_3 ++ dktX1_read_4
def dkwX1_read_2 : List UInt8 := [160, 0, 7, 4, 167, 0, 4, 3, 54, 5, 21, 5, 153, 0, 22, 28, 5, 161, 0, 13, 28, 16, 36]
abbrev dktX1_read_2 : List UInt8 := dkwX1_read_2 ++ dktX1_read_3
def dkwX1_read_1 : List UInt8 := [182, 0, 166, 16, 12, 160, 0, 7, 4, 167, 0, 4, 3, 184, 0, 161, 25, 4, 182, 0, 166, 16, 11]
abbrev dktX1_read_1 : List UInt8 := dkwX1_read_1 ++ dktX1_read_2
def dkwX1_read_0 : List UInt8 := [42, 182, 1, 227, 62, 42, 27, 182, 0, 155, 58, 4, 25, 4, 182, 0, 166, 16, 11, 159, 0, 13, 25, 4]
abbrev dktX1_read_0 : List UInt8 := dkwX1_read_0 ++ dktX1_read_1
theorem dksX1_read_0 : cX1_read.data.toList.drop 0 = dktX1_read_0 := by decide +kernel
theorem dksX1_read_1 : cX1_read.data.toList.drop 24 = dktX1_read_1 := dk_seg dksX1_read_0 24 rfl rfl
theorem dksX1_read_2 : cX1_read.data.toList.drop 47 = dktX1_read_2 := dk_seg dksX1_read_1 23 rfl rfl
theorem dksX1_read_3 : cX1_read.data.toList.drop 70 = dktX1_read_3 := dk_seg dksX1_read_2 23 rfl rfl
theorem dksX1_read_4 : cX1_read.data.toList.drop 92 = dktX1_read_4 := dk_seg dksX1_read_3 22 rfl rfl
theorem dksX1_read_5 : cX1_read.data.toList.drop 116 = dktX1_read_5 := dk_seg dksX1_read_4 24 rfl rfl
theorem dksX1_read_6 : cX1_read.data.toList.drop 140 = dktX1_read_6 := dk_seg dksX1_read_5 24 rfl rfl
theorem dksX1_read_7 : cX1_read.data.toList.drop 164 = dktX1_read_7 := dk_seg dksX1_read_6 24 rfl rfl
theorem dksX1_read_8 : cX1_read.data.toList.drop 188 = dktX1_read_8 := dk_seg dksX1_read_7 24 rfl rfl
theorem dX1_read_0 : decode cX1_read 0 = .ok (.aload_n 0, 1) := dk_42 (dk_at dksX1_read_0 0 rfl rfl)
theorem dX1_read_1 : decode cX1_read 1 = .ok (.invokevirtual 483, 3) := dk_182 1 227 (dk_at dksX1_read_0 1 rfl rfl)
theorem dX1_read_4 : decode cX1_read 4 = .ok (.istore_n 3, 1) := dk_62 (dk_at dksX1_read_0 4 rfl rfl)
theorem dX1_read_5 : decode cX1_read 5 = .ok (.aload_n 0, 1) := dk_42 (dk_at dksX1_read_0 5 rfl rfl)
theorem dX1_read_6 : decode cX1_read 6 = .ok (.iload_n 1, 1) := dk_27 (dk_at dksX1_read_0 6 rfl rfl)
theorem dX1_read_7 : decode cX1_read 7 = .ok (.invokevirtual 155, 3) := dk_182 0 155 (dk_at dksX1_read_0 7 rfl rfl)
theorem dX1_read_10 : decode cX1_read 10 = .ok (.astore 4, 2) := dk_58 4 (dk_at dksX1_read_0 10 rfl rfl)
theorem dX1_read_12 : decode cX1_read 12 = .ok (.aload 4, 2) := dk_25 4 (dk_at dksX1_read_0 12 rfl rfl)
theorem dX1_read_14 : decode cX1_read 14 = .ok (.invokevirtual 166, 3) := dk_182 0 166 (dk_at dksX1_read_0 14 rfl rfl)
theorem dX1_read_17 : decode cX1_read 17 = .ok (.bipush 11, 2) := dk_16 11 (dk_at dksX1_read_0 17 rfl rfl)
theorem dX1_read_19 : decode cX1_read 19 = .ok (.if_icmp .eq 13, 3) := dk_159 0 13 (dk_at dksX1_read_0 19 rfl rfl)
theorem dX1_read_22 : decode cX1_read 22 = .ok (.aload 4, 2) := dk_25 4 (dk_at dksX1_read_0 22 rfl rfl)
theorem dX1_read_24 : decode cX1_read 24 = .ok (.invokevirtual 166, 3) := dk_182 0 166 (dk_at dksX1_read_1 0 rfl rfl)
theorem dX1_read_27 : decode cX1_read 27 = .ok (.bipush 12, 2) := dk_16 12 (dk_at dksX1_read_1 3 rfl rfl)
theorem dX1_read_29 : decode cX1_read 29 = .ok (.if_icmp .ne 7, 3) := dk_160 0 7 (dk_at dksX1_read_1 5 rfl rfl)
theorem dX1_read_32 : decode cX1_read 32 = .ok (.iconst 1, 1) := dk_4 (dk_at dksX1_read_1 8 rfl rfl)
theorem dX1_read_33 : decode cX1_read 33 = .ok (.goto 4, 3) := dk_167 0 4 (dk_at dksX1_read_1 9 rfl rfl)
theorem dX1_read_36 : decode cX1_read 36 = .ok (.iconst 0, 1) := dk_3 (dk_at dksX1_read_1 12 rfl rfl)
theorem dX1_read_37 : decode cX1_read 37 = .ok (.invokestatic 161, 3) := dk_184 0 161 (dk_at dksX1_read_1 13 rfl rfl)
theorem dX1_read_40 : decode cX1_read 40 = .ok (.aload 4, 2) := dk_25 4 (dk_at dksX1_read_1 16 rfl rfl)
theorem dX1_read_42 : decode cX1_read 42 = .ok (.invokevirtual 166, 3) := dk_182 0 166 (dk_at dksX1_read_1 18 rfl rfl)
theorem dX1_read_45 : decode cX1_read 45 = .ok (.bipush 11, 2) := dk_16 11 (dk_at dksX1_read_1 21 rfl rfl)
theorem dX1_read_47 : decode cX1_read 47 = .ok (.if_icmp .ne 7, 3) := dk_160 0 7 (dk_at dksX1_read_2 0 rfl rfl)
theorem dX1_read_50 : decode cX1_read 50 = .ok (.iconst 1, 1) := dk_4 (dk_at dksX1_read_2 3 rfl rfl)
theorem dX1_read_51 : decode cX1_read 51 = .ok (.goto 4, 3) := dk_167 0 4 (dk_at dksX1_read_2 4 rfl rfl)
theorem dX1_read_54 : decode cX1_read 54 = .ok (.iconst 0, 1) := dk_3 (dk_at dksX1_read_2 7 rfl rfl)
theorem dX1_read_55 : decode cX1_read 55 = .ok (.istore 5, 2) := dk_54 5 (dk_at dksX1_read_2 8 rfl rfl)
theorem dX1_read_57 : decode cX1_read 57 = .ok (.iload 5, 2) := dk_21 5 (dk_at dksX1_read_2 10 rfl rfl)
theorem dX1_read_59 : decode cX1_read 59 = .ok (.ifCond .eq 22, 3) := dk_153 0 22 (dk_at dksX1_read_2 12 rfl rfl)
theorem dX1_read_62 : decode cX1_read 62 = .ok (.iload_n 2, 1) := dk_28 (dk_at dksX1_read_2 15 rfl rfl)
theorem dX1_read_63 : decode cX1_read 63 = .ok (.iconst 2, 1) := dk_5 (dk_at dksX1_read_2 16 rfl rfl)
theorem dX1_read_64 : decode cX1_read 64 = .ok (.if_icmp .lt 13, 3) := dk_161 0 13 (dk_at dksX1_read_2 17 rfl rfl)
theorem dX1_read_67 : decode cX1_read 67 = .ok (.iload_n 2, 1) := dk_28 (dk_at dksX1_read_2 20 rfl rfl)
theorem dX1_read_68 : decode cX1_read 68 = .ok (.bipush 36, 2) := dk_16 36 (dk_at dksX1_read_2 21 rfl rfl)
theorem dX1_read_70 : decode cX1_read 70 = .ok (.if_icmp .gt 7, 3) := dk_163 0 7 (dk_at dksX1_read_3 0 rfl rfl)
theorem dX1_read_73 : decode cX1_read 73 = .ok (.iconst 1, 1) := dk_4 (dk_at dksX1_read_3 3 rfl rfl)
theorem dX1_read_74 : decode cX1_read 74 = .ok (.goto 18, 3) := dk_167 0 18 (dk_at dksX1_read_3 4 rfl rfl)
theorem dX1_read_77 : decode cX1_read 77 = .ok (.iconst 0, 1) := dk_3 (dk_at dksX1_read_3 7 rfl rfl)
theorem dX1_read_78 : decode cX1_read 78 = .ok (.goto 14, 3) := dk_167 0 14 (dk_at dksX1_read_3 8 rfl rfl)
theorem dX1_read_81 : decode cX1_read 81 = .ok (.iload_n 2, 1) := dk_28 (dk_at dksX1_read_3 11 rfl rfl)
theorem dX1_read_82 : decode cX1_read 82 = .ok (.bipush 10, 2) := dk_16 10 (dk_at dksX1_read_3 12 rfl rfl)
theorem dX1_read_84 : decode cX1_read 84 = .ok (.if_icmp .ne 7, 3) := dk_160 0 7 (dk_at dksX1_read_3 14 rfl rfl)
theorem dX1_read_87 : decode cX1_read 87 = .ok (.iconst 1, 1) := dk_4 (dk_at dksX1_read_3 17 rfl rfl)
theorem dX1_read_88 : decode cX1_read 88 = .ok (.goto 4, 3) := dk_167 0 4 (dk_at dksX1_read_3 18 rfl rfl)
theorem dX1_read_91 : decode cX1_read 91 = .ok (.iconst 0, 1) := dk_3 (dk_at dksX1_read_3 21 rfl rfl)
theorem dX1_read_92 : decode cX1_read 92 = .ok (.invokestatic 146, 3) := dk_184 0 146 (dk_at dksX1_read_4 0 rfl rfl)
theorem dX1_read_95 : decode cX1_read 95 = .ok (.iload 5, 2) := dk_21 5 (dk_at dksX1_read_4 3 rfl rfl)
theorem dX1_read_97 : decode cX1_read 97 = .ok (.ifCond .eq 19, 3) := dk_153 0 19 (dk_at dksX1_read_4 5 rfl rfl)
theorem dX1_read_100 : decode cX1_read 100 = .ok (.aload_n 0, 1) := dk_42 (dk_at dksX1_read_4 8 rfl rfl)
theorem dX1_read_101 : decode cX1_read 101 = .ok (.getfield 109, 3) := dk_180 0 109 (dk_at dksX1_read_4 9 rfl rfl)
theorem dX1_read_104 : decode cX1_read 104 = .ok (.aload_n 0, 1) := dk_42 (dk_at dksX1_read_4 12 rfl rfl)
theorem dX1_read_105 : decode cX1_read 105 = .ok (.getfield 31, 3) := dk_180 0 31 (dk_at dksX1_read_4 13 rfl rfl)
theorem dX1_read_108 : decode cX1_read 108 = .ok (.iload_n 3, 1) := dk_29 (dk_at dksX1_read_4 16 rfl rfl)
theorem dX1_read_109 : decode cX1_read 109 = .ok (.iload_n 2, 1) := dk_28 (dk_at dksX1_read_4 17 rfl rfl)
theorem dX1_read_110 : decode cX1_read 110 = .ok (.invokevirtual 609, 3) := dk_182 2 97 (dk_at dksX1_read_4 18 rfl rfl)
theorem dX1_read_113 : decode cX1_read 113 = .ok (.goto 15, 3) := dk_167 0 15 (dk_at dksX1_read_4 21 rfl rfl)
theorem dX1_read_116 : decode cX1_read 116 = .ok (.aload_n 0, 1) := dk_42 (dk_at dksX1_read_5 0 rfl rfl)
theorem dX1_read_117 : decode cX1_read 117 = .ok (.getfield 109, 3) := dk_180 0 109 (dk_at dksX1_read_5 1 rfl rfl)
theorem dX1_read_120 : decode cX1_read 120 = .ok (.aload_n 0, 1) := dk_42 (dk_at dksX1_read_5 4 rfl rfl)
theorem dX1_read_121 : decode cX1_read 121 = .ok (.getfield 31, 3) := dk_180 0 31 (dk_at dksX1_read_5 5 rfl rfl)
theorem dX1_read_124 : decode cX1_read 124 = .ok (.iload_n 3, 1) := dk_29 (dk_at dksX1_read_5 8 rfl rfl)
theorem dX1_read_125 : decode cX1_read 125 = .ok (.invokevirtual 613, 3) := dk_182 2 101 (dk_at dksX1_read_5 9 rfl rfl)
theorem dX1_read_128 : decode cX1_read 128 = .ok (.goto 12, 3) := dk_167 0 12 (dk_at dksX1_read_5 12 rfl rfl)
theorem dX1_read_131 : decode cX1_read 131 = .ok (.astore 6, 2) := dk_58 6 (dk_at dksX1_read_5 15 rfl rfl)
theorem dX1_read_133 : decode cX1_read 133 = .ok (.aload_n 0, 1) := dk_42 (dk_at dksX1_read_5 17 rfl rfl)
theorem dX1_read_134 : decode cX1_read 134 = .ok (.aload 6, 2) := dk_25 6 (dk_at dksX1_read_5 18 rfl rfl)
theorem dX1_read_136 : decode cX1_read 136 = .ok (.invokevirtual 496, 3) := dk_182 1 240 (dk_at dksX1_read_5 20 rfl rfl)
theorem dX1_read_139 : decode cX1_read 139 = .ok (.athrow, 1) := dk_191 (dk_at dksX1_read_5 23 rfl rfl)
theorem dX1_read_140 : decode cX1_read 140 = .ok (.iload 5, 2) := dk_21 5 (dk_at dksX1_read_6 0 rfl rfl)
theorem dX1_read_142 : decode cX1_read 142 = .ok (.ifCond .eq 34, 3) := dk_153 0 34 (dk_at dksX1_read_6 2 rfl rfl)
theorem dX1_read_145 : decode cX1_read 145 = .ok (.aload_n 0, 1) := dk_42 (dk_at dksX1_read_6 5 rfl rfl)
theorem dX1_read_146 : decode cX1_read 146 = .ok (.getfield 109, 3) := dk_180 0 109 (dk_at dksX1_read_6 6 rfl rfl)
theorem dX1_read_149 : decode cX1_read 149 = .ok (.getfield 617, 3) := dk_180 2 105 (dk_at dksX1_read_6 9 rfl rfl)
theorem dX1_read_152 : decode cX1_read 152 = .ok (.invokestatic 620, 3) := dk_184 2 108 (dk_at dksX1_read_6 12 rfl rfl)
theorem dX1_read_155 : decode cX1_read 155 = .ok (.aload 4, 2) := dk_25 4 (dk_at dksX1_read_6 15 rfl rfl)
theorem dX1_read_157 : decode cX1_read 157 = .ok (.checkcast 210, 3) := dk_192 0 210 (dk_at dksX1_read_6 17 rfl rfl)
theorem dX1_read_160 : decode cX1_read 160 = .ok (.getfield 257, 3) := dk_180 1 1 (dk_at dksX1_read_6 20 rfl rfl)
theorem dX1_read_163 : decode cX1_read 163 = .ok (.aload_n 0, 1) := dk_42 (dk_at dksX1_read_6 23 rfl rfl)
theorem dX1_read_164 : decode cX1_read 164 = .ok (.getfield 109, 3) := dk_180 0 109 (dk_at dksX1_read_7 0 rfl rfl)
theorem dX1_read_167 : decode cX1_read 167 = .ok (.getfield 617, 3) := dk_180 2 105 (dk_at dksX1_read_7 3 rfl rfl)
theorem dX1_read_170 : decode cX1_read 170 = .ok (.invokevirtual 623, 3) := dk_182 2 111 (dk_at dksX1_read_7 6 rfl rfl)
theorem dX1_read_173 : decode cX1_read 173 = .ok (.goto 36, 3) := dk_167 0 36 (dk_at dksX1_read_7 9 rfl rfl)
theorem dX1_read_176 : decode cX1_read 176 = .ok (.aload 4, 2) := dk_25 4 (dk_at dksX1_read_7 12 rfl rfl)
theorem dX1_read_178 : decode cX1_read 178 = .ok (.checkcast 213, 3) := dk_192 0 213 (dk_at dksX1_read_7 14 rfl rfl)
theorem dX1_read_181 : decode cX1_read 181 = .ok (.getfield 266, 3) := dk_180 1 10 (dk_at dksX1_read_7 17 rfl rfl)
theorem dX1_read_184 : decode cX1_read 184 = .ok (.aload_n 0, 1) := dk_42 (dk_at dksX1_read_7 20 rfl rfl)
theorem dX1_read_185 : decode cX1_read 185 = .ok (.getfield 109, 3) := dk_180 0 109 (dk_at dksX1_read_7 21 rfl rfl)
theorem dX1_read_188 : decode cX1_read 188 = .ok (.getfield 617, 3) := dk_180 2 105 (dk_at dksX1_read_8 0 rfl rfl)
theorem dX1_read_191 : decode cX1_read 191 = .ok (.invokevirtual 623, 3) := dk_182 2 111 (dk_at dksX1_read_8 3 rfl rfl)
theorem dX1_read_194 : decode cX1_read 194 = .ok (.aload 4, 2) := dk_25 4 (dk_at dksX1_read_8 6 rfl rfl)
theorem dX1_read_196 : decode cX1_read 196 = .ok (.checkcast 213, 3) := dk_192 0 213 (dk_at dksX1_read_8 8 rfl rfl)
theorem dX1_read_199 : decode cX1_read 199 = .ok (.aload_n 0, 1) := dk_42 (dk_at dksX1_read_8 11 rfl rfl)
theorem dX1_read_200 : decode cX1_read 200 = .ok (.getfield 109, 3) := dk_180 0 109 (dk_at dksX1_read_8 12 rfl rfl)
theorem dX1_read_203 : decode cX1_read 203 = .ok (.getfield 625, 3) := dk_180 2 113 (dk_at dksX1_read_8 15 rfl rfl)
theorem dX1_read_206 : decode cX1_read 206 = .ok (.putfield 267, 3) := dk_181 1 11 (dk_at dksX1_read_8 18 rfl rfl)
theorem dX1_read_209 : decode cX1_read 209 = .ok (.iload_n 3, 1) := dk_29 (dk_at dksX1_read_8 21 rfl rfl)
theorem dX1_read_210 : decode cX1_read 210 = .ok (.ireturn, 1) := dk_172 (dk_at dksX1_read_8 22 rfl rfl)
abbrev cX1_show : ByteArray := prog_1_method_63_code
def yX1_show : MethodName := ⟨RX1, "show", "(II)I"⟩
def dkwX1_show_5 : List UInt8 := [182, 2, 118, 42, 180, 0, 38, 180, 2, 21, 172]
abbrev dktX1_show_5 : List UInt8 := dkwX1_show_5 ++ []
def dkwX1_show_4 : List UInt8 := [42, 180, 0, 38, 182, 2, 114, 167, 0, 18, 42, 180, 0, 109, 45, 192, 0, 213, 42, 180, 0, 38]
abbrev dktX1_show_4 : List UInt8 := dkwX1_show_4 ++ dktX1_show_5
def dkwX1_show_3 : List UInt8 := [184, 0, 146, 45, 182, 0, 166, 16, 11, 160, 0, 25, 42, 180, 0, 109, 45, 192, 0, 210, 180, 1, 1, 28]
abbrev dktX1_show_3 : List UInt8 := dkwX1_show_3 ++ dktX1_show_4
def dkwX1_show_2 : List UInt8 := [16, 36, 163, 0, 7, 4, 167, 0, 18, 3, 167, 0, 14, 28, 16, 10, 160, 0, 7, 4, 167, 0, 4, 3]
abbrev dktX1_show_2 : List UInt8 := dkwX1_show_2 ++ dktX1_show_3
def dkwX1_show_1 : List UInt8 := [4, 167, 0, 4, 3, 184, 0, 161, 45, 182, 0, 166, 16, 11, 160, 0, 22, 28, 5, 161, 0, 13, 28]
abbrev dktX1_show_1 : List UInt8 := dkwX1_show_1 ++ dktX1_show_2
def dkwX1_show_0 : List UInt8 := [42, 27, 182, 0, 155, 78, 45, 182, 0, 166, 16, 11, 159, 0, 12, 45, 182, 0, 166, 16, 12, 160, 0, 7]
abbrev dktX1_show_0 : List UInt8 := dkwX1_show_0 ++ dktX1_show_1
theorem dksX1_show_0 : cX1_show.data.toList.drop 0 = dktX1_show_0 := by decide +kernel
theorem dksX1_show_1 : cX1_show.data.toList.drop 24 = dktX1_show_1 := dk_seg dksX1_show_0 24 rfl rfl
theorem dksX1_show_2 : cX1_show.data.toList.drop 47 = dktX1_show_2 := dk_seg dksX1_show_1 23 rfl rfl
theorem dksX1_show_3 : cX1_show.data.toList.drop 71 = dktX1_show_3 := dk_seg dksX1_show_2 24 rfl rfl
theorem dksX1_show_4 : cX1_show.data.toList.drop 95 = dktX1_show_4 := dk_seg dksX1_show_3 24 rfl rfl
theorem dksX1_show_5 : cX1_show.data.toList.drop 117 = dktX1_show_5 := dk_seg dksX1_show_4 22 rfl rfl
theorem dX1_show_0 : decode cX1_show 0 = .ok (.aload_n 0, 1) := dk_42 (dk_at dksX1_show_0 0 rfl rfl)
theorem dX1_show_1 : decode cX1_show 1 = .ok (.iload_n 1, 1) := dk_27 (dk_at dksX1_show_0 1 rfl rfl)
theorem dX1_show_2 : decode cX1_show 2 = .ok (.invokevirtual 155, 3) := dk_182 0 155 (dk_at dksX1_show_0 2 rfl rfl)
theorem dX1_show_5 : decode cX1_show 5 = .ok (.astore_n 3, 1) := dk_78 (dk_at dksX1_show_0 5 rfl rfl)
theorem dX1_show_6 : decode cX1_show 6 = .ok (.aload_n 3, 1) := dk_45 (dk_at dksX1_show_0 6 rfl rfl)
theorem dX1_show_7 : decode cX1_show 7 = .ok (.invokevirtual 166, 3) := dk_182 0 166 (dk_at dksX1_show_0 7 rfl rfl)
theorem dX1_show_10 : decode cX1_show 10 = .ok (.bipush 11, 2) := dk_16 11 (dk_at dksX1_show_0 10 rfl rfl)
theorem dX1_show_12 : decode cX1_show 12 = .ok (.if_icmp .eq 12, 3) := dk_159 0 12 (dk_at dksX1_show_0 12 rfl rfl)
theorem dX1_show_15 : decode cX1_show 15 = .ok (.aload_n 3, 1) := dk_45 (dk_at dksX1_show_0 15 rfl rfl)
theorem dX1_show_16 : decode cX1_show 16 = .ok (.invokevirtual 166, 3) := dk_182 0 166 (dk_at dksX1_show_0 16 rfl rfl)
theorem dX1_show_19 : decode cX1_show 19 = .ok (.bipush 12, 2) := dk_16 12 (dk_at dksX1_show_0 19 rfl rfl)
theorem dX1_show_21 : decode cX1_show 21 = .ok (.if_icmp .ne 7, 3) := dk_160 0 7 (dk_at dksX1_show_0 21 rfl rfl)
theorem dX1_show_24 : decode cX1_show 24 = .ok (.iconst 1, 1) := dk_4 (dk_at dksX1_show_1 0 rfl rfl)
theorem dX1_show_25 : decode cX1_show 25 = .ok (.goto 4, 3) := dk_167 0 4 (dk_at dksX1_show_1 1 rfl rfl)
theorem dX1_show_28 : decode cX1_show 28 = .ok (.iconst 0, 1) := dk_3 (dk_at dksX1_show_1 4 rfl rfl)
theorem dX1_show_29 : decode cX1_show 29 = .ok (.invokestatic 161, 3) := dk_184 0 161 (dk_at dksX1_show_1 5 rfl rfl)
theorem dX1_show_32 : decode cX1_show 32 = .ok (.aload_n 3, 1) := dk_45 (dk_at dksX1_show_1 8 rfl rfl)
theorem dX1_show_33 : decode cX1_show 33 = .ok (.invokevirtual 166, 3) := dk_182 0 166 (dk_at dksX1_show_1 9 rfl rfl)
theorem dX1_show_36 : decode cX1_show 36 = .ok (.bipush 11, 2) := dk_16 11 (dk_at dksX1_show_1 12 rfl rfl)
theorem dX1_show_38 : decode cX1_show 38 = .ok (.if_icmp .ne 22, 3) := dk_160 0 22 (dk_at dksX1_show_1 14 rfl rfl)
theorem dX1_show_41 : decode cX1_show 41 = .ok (.iload_n 2, 1) := dk_28 (dk_at dksX1_show_1 17 rfl rfl)
theorem dX1_show_42 : decode cX1_show 42 = .ok (.iconst 2, 1) := dk_5 (dk_at dksX1_show_1 18 rfl rfl)
theorem dX1_show_43 : decode cX1_show 43 = .ok (.if_icmp .lt 13, 3) := dk_161 0 13 (dk_at dksX1_show_1 19 rfl rfl)
theorem dX1_show_46 : decode cX1_show 46 = .ok (.iload_n 2, 1) := dk_28 (dk_at dksX1_show_1 22 rfl rfl)
theorem dX1_show_47 : decode cX1_show 47 = .ok (.bipush 36, 2) := dk_16 36 (dk_at dksX1_show_2 0 rfl rfl)
theorem dX1_show_49 : decode cX1_show 49 = .ok (.if_icmp .gt 7, 3) := dk_163 0 7 (dk_at dksX1_show_2 2 rfl rfl)
theorem dX1_show_52 : decode cX1_show 52 = .ok (.iconst 1, 1) := dk_4 (dk_at dksX1_show_2 5 rfl rfl)
theorem dX1_show_53 : decode cX1_show 53 = .ok (.goto 18, 3) := dk_167 0 18 (dk_at dksX1_show_2 6 rfl rfl)
theorem dX1_show_56 : decode cX1_show 56 = .ok (.iconst 0, 1) := dk_3 (dk_at dksX1_show_2 9 rfl rfl)
theorem dX1_show_57 : decode cX1_show 57 = .ok (.goto 14, 3) := dk_167 0 14 (dk_at dksX1_show_2 10 rfl rfl)
theorem dX1_show_60 : decode cX1_show 60 = .ok (.iload_n 2, 1) := dk_28 (dk_at dksX1_show_2 13 rfl rfl)
theorem dX1_show_61 : decode cX1_show 61 = .ok (.bipush 10, 2) := dk_16 10 (dk_at dksX1_show_2 14 rfl rfl)
theorem dX1_show_63 : decode cX1_show 63 = .ok (.if_icmp .ne 7, 3) := dk_160 0 7 (dk_at dksX1_show_2 16 rfl rfl)
theorem dX1_show_66 : decode cX1_show 66 = .ok (.iconst 1, 1) := dk_4 (dk_at dksX1_show_2 19 rfl rfl)
theorem dX1_show_67 : decode cX1_show 67 = .ok (.goto 4, 3) := dk_167 0 4 (dk_at dksX1_show_2 20 rfl rfl)
theorem dX1_show_70 : decode cX1_show 70 = .ok (.iconst 0, 1) := dk_3 (dk_at dksX1_show_2 23 rfl rfl)
theorem dX1_show_71 : decode cX1_show 71 = .ok (.invokestatic 146, 3) := dk_184 0 146 (dk_at dksX1_show_3 0 rfl rfl)
theorem dX1_show_74 : decode cX1_show 74 = .ok (.aload_n 3, 1) := dk_45 (dk_at dksX1_show_3 3 rfl rfl)
theorem dX1_show_75 : decode cX1_show 75 = .ok (.invokevirtual 166, 3) := dk_182 0 166 (dk_at dksX1_show_3 4 rfl rfl)
theorem dX1_show_78 : decode cX1_show 78 = .ok (.bipush 11, 2) := dk_16 11 (dk_at dksX1_show_3 7 rfl rfl)
theorem dX1_show_80 : decode cX1_show 80 = .ok (.if_icmp .ne 25, 3) := dk_160 0 25 (dk_at dksX1_show_3 9 rfl rfl)
theorem dX1_show_83 : decode cX1_show 83 = .ok (.aload_n 0, 1) := dk_42 (dk_at dksX1_show_3 12 rfl rfl)
theorem dX1_show_84 : decode cX1_show 84 = .ok (.getfield 109, 3) := dk_180 0 109 (dk_at dksX1_show_3 13 rfl rfl)
theorem dX1_show_87 : decode cX1_show 87 = .ok (.aload_n 3, 1) := dk_45 (dk_at dksX1_show_3 16 rfl rfl)
theorem dX1_show_88 : decode cX1_show 88 = .ok (.checkcast 210, 3) := dk_192 0 210 (dk_at dksX1_show_3 17 rfl rfl)
theorem dX1_show_91 : decode cX1_show 91 = .ok (.getfield 257, 3) := dk_180 1 1 (dk_at dksX1_show_3 20 rfl rfl)
theorem dX1_show_94 : decode cX1_show 94 = .ok (.iload_n 2, 1) := dk_28 (dk_at dksX1_show_3 23 rfl rfl)
theorem dX1_show_95 : decode cX1_show 95 = .ok (.aload_n 0, 1) := dk_42 (dk_at dksX1_show_4 0 rfl rfl)
theorem dX1_show_96 : decode cX1_show 96 = .ok (.getfield 38, 3) := dk_180 0 38 (dk_at dksX1_show_4 1 rfl rfl)
theorem dX1_show_99 : decode cX1_show 99 = .ok (.invokevirtual 626, 3) := dk_182 2 114 (dk_at dksX1_show_4 4 rfl rfl)
theorem dX1_show_102 : decode cX1_show 102 = .ok (.goto 18, 3) := dk_167 0 18 (dk_at dksX1_show_4 7 rfl rfl)
theorem dX1_show_105 : decode cX1_show 105 = .ok (.aload_n 0, 1) := dk_42 (dk_at dksX1_show_4 10 rfl rfl)
theorem dX1_show_106 : decode cX1_show 106 = .ok (.getfield 109, 3) := dk_180 0 109 (dk_at dksX1_show_4 11 rfl rfl)
theorem dX1_show_109 : decode cX1_show 109 = .ok (.aload_n 3, 1) := dk_45 (dk_at dksX1_show_4 14 rfl rfl)
theorem dX1_show_110 : decode cX1_show 110 = .ok (.checkcast 213, 3) := dk_192 0 213 (dk_at dksX1_show_4 15 rfl rfl)
theorem dX1_show_113 : decode cX1_show 113 = .ok (.aload_n 0, 1) := dk_42 (dk_at dksX1_show_4 18 rfl rfl)
theorem dX1_show_114 : decode cX1_show 114 = .ok (.getfield 38, 3) := dk_180 0 38 (dk_at dksX1_show_4 19 rfl rfl)
theorem dX1_show_117 : decode cX1_show 117 = .ok (.invokevirtual 630, 3) := dk_182 2 118 (dk_at dksX1_show_5 0 rfl rfl)
theorem dX1_show_120 : decode cX1_show 120 = .ok (.aload_n 0, 1) := dk_42 (dk_at dksX1_show_5 3 rfl rfl)
theorem dX1_show_121 : decode cX1_show 121 = .ok (.getfield 38, 3) := dk_180 0 38 (dk_at dksX1_show_5 4 rfl rfl)
theorem dX1_show_124 : decode cX1_show 124 = .ok (.getfield 533, 3) := dk_180 2 21 (dk_at dksX1_show_5 7 rfl rfl)
theorem dX1_show_127 : decode cX1_show 127 = .ok (.ireturn, 1) := dk_172 (dk_at dksX1_show_5 10 rfl rfl)
abbrev cX1_stream : ByteArray := prog_1_method_64_code
def yX1_stream : MethodName := ⟨RX1, "stream", "()J"⟩
def dkwX1_stream_9 : List UInt8 := [181, 2, 154, 33, 173]
abbrev dktX1_stream_9 : List UInt8 := dkwX1_stream_9 ++ []
def dkwX1_stream_8 : List UInt8 := [182, 2, 145, 167, 0, 10, 42, 180, 0, 116, 182, 2, 148, 66, 42, 42, 180, 0, 116, 180, 2, 151, 133]
abbrev dktX1_stream_8 : List UInt8 := dkwX1_stream_8 ++ dktX1_stream_9
def dkwX1_stream_7 : List UInt8 := [160, 0, 10, 42, 182, 2, 141, 167, 0, 29, 42, 180, 0, 116, 180, 2, 138, 16, 10, 160, 0, 10, 42]
abbrev dktX1_stream_7 : List UInt8 := dkwX1_stream_7 ++ dktX1_stream_8
def dkwX1_stream_6 : List UInt8 := [182, 0, 233, 167, 0, 4, 3, 61, 42, 180, 0, 116, 182, 2, 140, 42, 180, 0, 116, 180, 2, 138, 16, 9]
abbrev dktX1_stream_6 : List UInt8 := dkwX1_stream_6 ++ dktX1_stream_7
def dkwX1_stream_5 : List UInt8 := [180, 2, 135, 182, 1, 88, 181, 2, 128, 42, 180, 0, 116, 180, 2, 138, 16, 9, 161, 0, 10, 42]
abbrev dktX1_stream_5 : List UInt8 := dkwX1_stream_5 ++ dktX1_stream_6
def dkwX1_stream_4 : List UInt8 := [159, 0, 14, 42, 180, 0, 116, 180, 2, 132, 6, 160, 0, 21, 42, 180, 0, 116, 42, 42, 180, 0, 116]
abbrev dktX1_stream_4 : List UInt8 := dkwX1_stream_4 ++ dktX1_stream_5
def dkwX1_stream_3 : List UInt8 := [181, 2, 124, 42, 180, 0, 116, 180, 2, 124, 182, 1, 62, 167, 0, 43, 42, 180, 0, 116, 180, 2, 132, 5]
abbrev dktX1_stream_3 : List UInt8 := dkwX1_stream_3 ++ dktX1_stream_4
def dkwX1_stream_2 : List UInt8 := [180, 2, 132, 4, 160, 0, 34, 42, 180, 0, 116, 42, 42, 180, 0, 116, 180, 2, 135, 182, 1, 58]
abbrev dktX1_stream_2 : List UInt8 := dkwX1_stream_2 ++ dktX1_stream_3
def dkwX1_stream_1 : List UInt8 := [182, 1, 240, 191, 42, 180, 0, 116, 1, 181, 2, 124, 42, 180, 0, 116, 1, 181, 2, 128, 42, 180, 0, 116]
abbrev dktX1_stream_1 : List UInt8 := dkwX1_stream_1 ++ dktX1_stream_2
def dkwX1_stream_0 : List UInt8 := [42, 182, 1, 227, 60, 42, 180, 0, 116, 42, 180, 0, 31, 27, 182, 2, 122, 167, 0, 10, 77, 42, 44]
abbrev dktX1_stream_0 : List UInt8 := dkwX1_stream_0 ++ dktX1_stream_1
theorem dksX1_stream_0 : cX1_stream.data.toList.drop 0 = dktX1_stream_0 := by decide +kernel
theorem dksX1_stream_1 : cX1_stream.data.toList.drop 23 = dktX1_stream_1 := dk_seg dksX1_stream_0 23 rfl rfl
theorem dksX1_stream_2 : cX1_stream.data.toList.drop 47 = dktX1_stream_2 := dk_seg dksX1_stream_1 24 rfl rfl
theorem dksX1_stream_3 : cX1_stream.data.toList.drop 69 = dktX1_stream_3 := dk_seg dksX1_stream_2 22 rfl rfl
theorem dksX1_stream_4 : cX1_stream.data.toList.drop 93 = dktX1_stream_4 := dk_seg dksX1_stream_3 24 rfl rfl
theorem dksX1_stream_5 : cX1_stream.data.toList.drop 116 = dktX1_stream_5 := dk_seg dksX1_stream_4 23 rfl rfl
theorem dksX1_stream_6 : cX1_stream.data.toList.drop 138 = dktX1_stream_6 := dk_seg dksX1_stream_5 22 rfl rfl
theorem dksX1_stream_7 : cX1_stream.data.toList.drop 162 = dktX1_stream_7 := dk_seg dksX1_stream_6 24 rfl rfl
theorem dksX1_stream_8 : cX1_stream.data.toList.drop 185 = dktX1_stream_8 := dk_seg dksX1_stream_7 23 rfl rfl
theorem dksX1_stream_9 : cX1_stream.data.toList.drop 208 = dktX1_stream_9 := dk_seg dksX1_stream_8 23 rfl rfl
theorem dX1_stream_0 : decode cX1_stream 0 = .ok (.aload_n 0, 1) := dk_42 (dk_at dksX1_stream_0 0 rfl rfl)
theorem dX1_stream_1 : decode cX1_stream 1 = .ok (.invokevirtual 483, 3) := dk_182 1 227 (dk_at dksX1_stream_0 1 rfl rfl)
theorem dX1_stream_4 : decode cX1_stream 4 = .ok (.istore_n 1, 1) := dk_60 (dk_at dksX1_stream_0 4 rfl rfl)
theorem dX1_stream_5 : decode cX1_stream 5 = .ok (.aload_n 0, 1) := dk_42 (dk_at dksX1_stream_0 5 rfl rfl)
theorem dX1_stream_6 : decode cX1_stream 6 = .ok (.getfield 116, 3) := dk_180 0 116 (dk_at dksX1_stream_0 6 rfl rfl)
theorem dX1_stream_9 : decode cX1_stream 9 = .ok (.aload_n 0, 1) := dk_42 (dk_at dksX1_stream_0 9 rfl rfl)
theorem dX1_stream_10 : decode cX1_stream 10 = .ok (.getfield 31, 3) := dk_180 0 31 (dk_at dksX1_stream_0 10 rfl rfl)
theorem dX1_stream_13 : decode cX1_stream 13 = .ok (.iload_n 1, 1) := dk_27 (dk_at dksX1_stream_0 13 rfl rfl)
theorem dX1_stream_14 : decode cX1_stream 14 = .ok (.invokevirtual 634, 3) := dk_182 2 122 (dk_at dksX1_stream_0 14 rfl rfl)
theorem dX1_stream_17 : decode cX1_stream 17 = .ok (.goto 10, 3) := dk_167 0 10 (dk_at dksX1_stream_0 17 rfl rfl)
theorem dX1_stream_20 : decode cX1_stream 20 = .ok (.astore_n 2, 1) := dk_77 (dk_at dksX1_stream_0 20 rfl rfl)
theorem dX1_stream_21 : decode cX1_stream 21 = .ok (.aload_n 0, 1) := dk_42 (dk_at dksX1_stream_0 21 rfl rfl)
theorem dX1_stream_22 : decode cX1_stream 22 = .ok (.aload_n 2, 1) := dk_44 (dk_at dksX1_stream_0 22 rfl rfl)
theorem dX1_stream_23 : decode cX1_stream 23 = .ok (.invokevirtual 496, 3) := dk_182 1 240 (dk_at dksX1_stream_1 0 rfl rfl)
theorem dX1_stream_26 : decode cX1_stream 26 = .ok (.athrow, 1) := dk_191 (dk_at dksX1_stream_1 3 rfl rfl)
theorem dX1_stream_27 : decode cX1_stream 27 = .ok (.aload_n 0, 1) := dk_42 (dk_at dksX1_stream_1 4 rfl rfl)
theorem dX1_stream_28 : decode cX1_stream 28 = .ok (.getfield 116, 3) := dk_180 0 116 (dk_at dksX1_stream_1 5 rfl rfl)
theorem dX1_stream_31 : decode cX1_stream 31 = .ok (.aconst_null, 1) := dk_1 (dk_at dksX1_stream_1 8 rfl rfl)
theorem dX1_stream_32 : decode cX1_stream 32 = .ok (.putfield 636, 3) := dk_181 2 124 (dk_at dksX1_stream_1 9 rfl rfl)
theorem dX1_stream_35 : decode cX1_stream 35 = .ok (.aload_n 0, 1) := dk_42 (dk_at dksX1_stream_1 12 rfl rfl)
theorem dX1_stream_36 : decode cX1_stream 36 = .ok (.getfield 116, 3) := dk_180 0 116 (dk_at dksX1_stream_1 13 rfl rfl)
theorem dX1_stream_39 : decode cX1_stream 39 = .ok (.aconst_null, 1) := dk_1 (dk_at dksX1_stream_1 16 rfl rfl)
theorem dX1_stream_40 : decode cX1_stream 40 = .ok (.putfield 640, 3) := dk_181 2 128 (dk_at dksX1_stream_1 17 rfl rfl)
theorem dX1_stream_43 : decode cX1_stream 43 = .ok (.aload_n 0, 1) := dk_42 (dk_at dksX1_stream_1 20 rfl rfl)
theorem dX1_stream_44 : decode cX1_stream 44 = .ok (.getfield 116, 3) := dk_180 0 116 (dk_at dksX1_stream_1 21 rfl rfl)
theorem dX1_stream_47 : decode cX1_stream 47 = .ok (.getfield 644, 3) := dk_180 2 132 (dk_at dksX1_stream_2 0 rfl rfl)
theorem dX1_stream_50 : decode cX1_stream 50 = .ok (.iconst 1, 1) := dk_4 (dk_at dksX1_stream_2 3 rfl rfl)
theorem dX1_stream_51 : decode cX1_stream 51 = .ok (.if_icmp .ne 34, 3) := dk_160 0 34 (dk_at dksX1_stream_2 4 rfl rfl)
theorem dX1_stream_54 : decode cX1_stream 54 = .ok (.aload_n 0, 1) := dk_42 (dk_at dksX1_stream_2 7 rfl rfl)
theorem dX1_stream_55 : decode cX1_stream 55 = .ok (.getfield 116, 3) := dk_180 0 116 (dk_at dksX1_stream_2 8 rfl rfl)
theorem dX1_stream_58 : decode cX1_stream 58 = .ok (.aload_n 0, 1) := dk_42 (dk_at dksX1_stream_2 11 rfl rfl)
theorem dX1_stream_59 : decode cX1_stream 59 = .ok (.aload_n 0, 1) := dk_42 (dk_at dksX1_stream_2 12 rfl rfl)
theorem dX1_stream_60 : decode cX1_stream 60 = .ok (.getfield 116, 3) := dk_180 0 116 (dk_at dksX1_stream_2 13 rfl rfl)
theorem dX1_stream_63 : decode cX1_stream 63 = .ok (.getfield 647, 3) := dk_180 2 135 (dk_at dksX1_stream_2 16 rfl rfl)
theorem dX1_stream_66 : decode cX1_stream 66 = .ok (.invokevirtual 314, 3) := dk_182 1 58 (dk_at dksX1_stream_2 19 rfl rfl)
theorem dX1_stream_69 : decode cX1_stream 69 = .ok (.putfield 636, 3) := dk_181 2 124 (dk_at dksX1_stream_3 0 rfl rfl)
theorem dX1_stream_72 : decode cX1_stream 72 = .ok (.aload_n 0, 1) := dk_42 (dk_at dksX1_stream_3 3 rfl rfl)
theorem dX1_stream_73 : decode cX1_stream 73 = .ok (.getfield 116, 3) := dk_180 0 116 (dk_at dksX1_stream_3 4 rfl rfl)
theorem dX1_stream_76 : decode cX1_stream 76 = .ok (.getfield 636, 3) := dk_180 2 124 (dk_at dksX1_stream_3 7 rfl rfl)
theorem dX1_stream_79 : decode cX1_stream 79 = .ok (.invokevirtual 318, 3) := dk_182 1 62 (dk_at dksX1_stream_3 10 rfl rfl)
theorem dX1_stream_82 : decode cX1_stream 82 = .ok (.goto 43, 3) := dk_167 0 43 (dk_at dksX1_stream_3 13 rfl rfl)
theorem dX1_stream_85 : decode cX1_stream 85 = .ok (.aload_n 0, 1) := dk_42 (dk_at dksX1_stream_3 16 rfl rfl)
theorem dX1_stream_86 : decode cX1_stream 86 = .ok (.getfield 116, 3) := dk_180 0 116 (dk_at dksX1_stream_3 17 rfl rfl)
theorem dX1_stream_89 : decode cX1_stream 89 = .ok (.getfield 644, 3) := dk_180 2 132 (dk_at dksX1_stream_3 20 rfl rfl)
theorem dX1_stream_92 : decode cX1_stream 92 = .ok (.iconst 2, 1) := dk_5 (dk_at dksX1_stream_3 23 rfl rfl)
theorem dX1_stream_93 : decode cX1_stream 93 = .ok (.if_icmp .eq 14, 3) := dk_159 0 14 (dk_at dksX1_stream_4 0 rfl rfl)
theorem dX1_stream_96 : decode cX1_stream 96 = .ok (.aload_n 0, 1) := dk_42 (dk_at dksX1_stream_4 3 rfl rfl)
theorem dX1_stream_97 : decode cX1_stream 97 = .ok (.getfield 116, 3) := dk_180 0 116 (dk_at dksX1_stream_4 4 rfl rfl)
theorem dX1_stream_100 : decode cX1_stream 100 = .ok (.getfield 644, 3) := dk_180 2 132 (dk_at dksX1_stream_4 7 rfl rfl)
theorem dX1_stream_103 : decode cX1_stream 103 = .ok (.iconst 3, 1) := dk_6 (dk_at dksX1_stream_4 10 rfl rfl)
theorem dX1_stream_104 : decode cX1_stream 104 = .ok (.if_icmp .ne 21, 3) := dk_160 0 21 (dk_at dksX1_stream_4 11 rfl rfl)
theorem dX1_stream_107 : decode cX1_stream 107 = .ok (.aload_n 0, 1) := dk_42 (dk_at dksX1_stream_4 14 rfl rfl)
theorem dX1_stream_108 : decode cX1_stream 108 = .ok (.getfield 116, 3) := dk_180 0 116 (dk_at dksX1_stream_4 15 rfl rfl)
theorem dX1_stream_111 : decode cX1_stream 111 = .ok (.aload_n 0, 1) := dk_42 (dk_at dksX1_stream_4 18 rfl rfl)
theorem dX1_stream_112 : decode cX1_stream 112 = .ok (.aload_n 0, 1) := dk_42 (dk_at dksX1_stream_4 19 rfl rfl)
theorem dX1_stream_113 : decode cX1_stream 113 = .ok (.getfield 116, 3) := dk_180 0 116 (dk_at dksX1_stream_4 20 rfl rfl)
theorem dX1_stream_116 : decode cX1_stream 116 = .ok (.getfield 647, 3) := dk_180 2 135 (dk_at dksX1_stream_5 0 rfl rfl)
theorem dX1_stream_119 : decode cX1_stream 119 = .ok (.invokevirtual 344, 3) := dk_182 1 88 (dk_at dksX1_stream_5 3 rfl rfl)
theorem dX1_stream_122 : decode cX1_stream 122 = .ok (.putfield 640, 3) := dk_181 2 128 (dk_at dksX1_stream_5 6 rfl rfl)
theorem dX1_stream_125 : decode cX1_stream 125 = .ok (.aload_n 0, 1) := dk_42 (dk_at dksX1_stream_5 9 rfl rfl)
theorem dX1_stream_126 : decode cX1_stream 126 = .ok (.getfield 116, 3) := dk_180 0 116 (dk_at dksX1_stream_5 10 rfl rfl)
theorem dX1_stream_129 : decode cX1_stream 129 = .ok (.getfield 650, 3) := dk_180 2 138 (dk_at dksX1_stream_5 13 rfl rfl)
theorem dX1_stream_132 : decode cX1_stream 132 = .ok (.bipush 9, 2) := dk_16 9 (dk_at dksX1_stream_5 16 rfl rfl)
theorem dX1_stream_134 : decode cX1_stream 134 = .ok (.if_icmp .lt 10, 3) := dk_161 0 10 (dk_at dksX1_stream_5 18 rfl rfl)
theorem dX1_stream_137 : decode cX1_stream 137 = .ok (.aload_n 0, 1) := dk_42 (dk_at dksX1_stream_5 21 rfl rfl)
theorem dX1_stream_138 : decode cX1_stream 138 = .ok (.invokevirtual 233, 3) := dk_182 0 233 (dk_at dksX1_stream_6 0 rfl rfl)
theorem dX1_stream_141 : decode cX1_stream 141 = .ok (.goto 4, 3) := dk_167 0 4 (dk_at dksX1_stream_6 3 rfl rfl)
theorem dX1_stream_144 : decode cX1_stream 144 = .ok (.iconst 0, 1) := dk_3 (dk_at dksX1_stream_6 6 rfl rfl)
theorem dX1_stream_145 : decode cX1_stream 145 = .ok (.istore_n 2, 1) := dk_61 (dk_at dksX1_stream_6 7 rfl rfl)
theorem dX1_stream_146 : decode cX1_stream 146 = .ok (.aload_n 0, 1) := dk_42 (dk_at dksX1_stream_6 8 rfl rfl)
theorem dX1_stream_147 : decode cX1_stream 147 = .ok (.getfield 116, 3) := dk_180 0 116 (dk_at dksX1_stream_6 9 rfl rfl)
theorem dX1_stream_150 : decode cX1_stream 150 = .ok (.invokevirtual 652, 3) := dk_182 2 140 (dk_at dksX1_stream_6 12 rfl rfl)
theorem dX1_stream_153 : decode cX1_stream 153 = .ok (.aload_n 0, 1) := dk_42 (dk_at dksX1_stream_6 15 rfl rfl)
theorem dX1_stream_154 : decode cX1_stream 154 = .ok (.getfield 116, 3) := dk_180 0 116 (dk_at dksX1_stream_6 16 rfl rfl)
theorem dX1_stream_157 : decode cX1_stream 157 = .ok (.getfield 650, 3) := dk_180 2 138 (dk_at dksX1_stream_6 19 rfl rfl)
theorem dX1_stream_160 : decode cX1_stream 160 = .ok (.bipush 9, 2) := dk_16 9 (dk_at dksX1_stream_6 22 rfl rfl)
theorem dX1_stream_162 : decode cX1_stream 162 = .ok (.if_icmp .ne 10, 3) := dk_160 0 10 (dk_at dksX1_stream_7 0 rfl rfl)
theorem dX1_stream_165 : decode cX1_stream 165 = .ok (.aload_n 0, 1) := dk_42 (dk_at dksX1_stream_7 3 rfl rfl)
theorem dX1_stream_166 : decode cX1_stream 166 = .ok (.invokevirtual 653, 3) := dk_182 2 141 (dk_at dksX1_stream_7 4 rfl rfl)
theorem dX1_stream_169 : decode cX1_stream 169 = .ok (.goto 29, 3) := dk_167 0 29 (dk_at dksX1_stream_7 7 rfl rfl)
theorem dX1_stream_172 : decode cX1_stream 172 = .ok (.aload_n 0, 1) := dk_42 (dk_at dksX1_stream_7 10 rfl rfl)
theorem dX1_stream_173 : decode cX1_stream 173 = .ok (.getfield 116, 3) := dk_180 0 116 (dk_at dksX1_stream_7 11 rfl rfl)
theorem dX1_stream_176 : decode cX1_stream 176 = .ok (.getfield 650, 3) := dk_180 2 138 (dk_at dksX1_stream_7 14 rfl rfl)
theorem dX1_stream_179 : decode cX1_stream 179 = .ok (.bipush 10, 2) := dk_16 10 (dk_at dksX1_stream_7 17 rfl rfl)
theorem dX1_stream_181 : decode cX1_stream 181 = .ok (.if_icmp .ne 10, 3) := dk_160 0 10 (dk_at dksX1_stream_7 19 rfl rfl)
theorem dX1_stream_184 : decode cX1_stream 184 = .ok (.aload_n 0, 1) := dk_42 (dk_at dksX1_stream_7 22 rfl rfl)
theorem dX1_stream_185 : decode cX1_stream 185 = .ok (.invokevirtual 657, 3) := dk_182 2 145 (dk_at dksX1_stream_8 0 rfl rfl)
theorem dX1_stream_188 : decode cX1_stream 188 = .ok (.goto 10, 3) := dk_167 0 10 (dk_at dksX1_stream_8 3 rfl rfl)
theorem dX1_stream_191 : decode cX1_stream 191 = .ok (.aload_n 0, 1) := dk_42 (dk_at dksX1_stream_8 6 rfl rfl)
theorem dX1_stream_192 : decode cX1_stream 192 = .ok (.getfield 116, 3) := dk_180 0 116 (dk_at dksX1_stream_8 7 rfl rfl)
theorem dX1_stream_195 : decode cX1_stream 195 = .ok (.invokevirtual 660, 3) := dk_182 2 148 (dk_at dksX1_stream_8 10 rfl rfl)
theorem dX1_stream_198 : decode cX1_stream 198 = .ok (.lstore_n 3, 1) := dk_66 (dk_at dksX1_stream_8 13 rfl rfl)
theorem dX1_stream_199 : decode cX1_stream 199 = .ok (.aload_n 0, 1) := dk_42 (dk_at dksX1_stream_8 14 rfl rfl)
theorem dX1_stream_200 : decode cX1_stream 200 = .ok (.aload_n 0, 1) := dk_42 (dk_at dksX1_stream_8 15 rfl rfl)
theorem dX1_stream_201 : decode cX1_stream 201 = .ok (.getfield 116, 3) := dk_180 0 116 (dk_at dksX1_stream_8 16 rfl rfl)
theorem dX1_stream_204 : decode cX1_stream 204 = .ok (.getfield 663, 3) := dk_180 2 151 (dk_at dksX1_stream_8 19 rfl rfl)
theorem dX1_stream_207 : decode cX1_stream 207 = .ok (.i2l, 1) := dk_133 (dk_at dksX1_stream_8 22 rfl rfl)
theorem dX1_stream_208 : decode cX1_stream 208 = .ok (.putfield 666, 3) := dk_181 2 154 (dk_at dksX1_stream_9 0 rfl rfl)
theorem dX1_stream_211 : decode cX1_stream 211 = .ok (.lload_n 3, 1) := dk_33 (dk_at dksX1_stream_9 3 rfl rfl)
theorem dX1_stream_212 : decode cX1_stream 212 = .ok (.lreturn, 1) := dk_173 (dk_at dksX1_stream_9 4 rfl rfl)
abbrev cX1_toList : ByteArray := prog_1_method_65_code
def yX1_toList : MethodName := ⟨RX1, "toList", "()J"⟩
def dkwX1_toList_3 : List UInt8 := [182, 1, 32, 133, 173]
abbrev dktX1_toList_3 : List UInt8 := dkwX1_toList_3 ++ []
def dkwX1_toList_2 : List UInt8 := [162, 0, 20, 44, 29, 42, 180, 0, 129, 29, 46, 182, 2, 163, 132, 3, 1, 167, 255, 237, 42, 44, 2]
abbrev dktX1_toList_2 : List UInt8 := dkwX1_toList_2 ++ dktX1_toList_3
def dkwX1_toList_1 : List UInt8 := [180, 0, 236, 3, 182, 0, 240, 27, 158, 0, 12, 44, 180, 0, 236, 3, 27, 182, 2, 160, 3, 62, 29, 27]
abbrev dktX1_toList_1 : List UInt8 := dkwX1_toList_1 ++ dktX1_toList_2
def dkwX1_toList_0 : List UInt8 := [42, 180, 0, 116, 42, 180, 0, 129, 182, 2, 157, 60, 42, 3, 182, 1, 26, 192, 0, 179, 77, 44]
abbrev dktX1_toList_0 : List UInt8 := dkwX1_toList_0 ++ dktX1_toList_1
theorem dksX1_toList_0 : cX1_toList.data.toList.drop 0 = dktX1_toList_0 := by decide +kernel
theorem dksX1_toList_1 : cX1_toList.data.toList.drop 22 = dktX1_toList_1 := dk_seg dksX1_toList_0 22 rfl rfl
theorem dksX1_toList_2 : cX1_toList.data.toList.drop 46 = dktX1_toList_2 := dk_seg dksX1_toList_1 24 rfl rfl
theorem dksX1_toList_3 : cX1_toList.data.toList.drop 69 = dktX1_toList_3 := dk_seg dksX1_toList_2 23 rfl rfl
theorem dX1_toList_0 : decode cX1_toList 0 = .ok (.aload_n 0, 1) := dk_42 (dk_at dksX1_toList_0 0 rfl rfl)
theorem dX1_toList_1 : decode cX1_toList 1 = .ok (.getfield 116, 3) := dk_180 0 116 (dk_at dksX1_toList_0 1 rfl rfl)
theorem dX1_toList_4 : decode cX1_toList 4 = .ok (.aload_n 0, 1) := dk_42 (dk_at dksX1_toList_0 4 rfl rfl)
theorem dX1_toList_5 : decode cX1_toList 5 = .ok (.getfield 129, 3) := dk_180 0 129 (dk_at dksX1_toList_0 5 rfl rfl)
theorem dX1_toList_8 : decode cX1_toList 8 = .ok (.invokevirtual 669, 3) := dk_182 2 157 (dk_at dksX1_toList_0 8 rfl rfl)
theorem dX1_toList_11 : decode cX1_toList 11 = .ok (.istore_n 1, 1) := dk_60 (dk_at dksX1_toList_0 11 rfl rfl)
theorem dX1_toList_12 : decode cX1_toList 12 = .ok (.aload_n 0, 1) := dk_42 (dk_at dksX1_toList_0 12 rfl rfl)
theorem dX1_toList_13 : decode cX1_toList 13 = .ok (.iconst 0, 1) := dk_3 (dk_at dksX1_toList_0 13 rfl rfl)
theorem dX1_toList_14 : decode cX1_toList 14 = .ok (.invokevirtual 282, 3) := dk_182 1 26 (dk_at dksX1_toList_0 14 rfl rfl)
theorem dX1_toList_17 : decode cX1_toList 17 = .ok (.checkcast 179, 3) := dk_192 0 179 (dk_at dksX1_toList_0 17 rfl rfl)
theorem dX1_toList_20 : decode cX1_toList 20 = .ok (.astore_n 2, 1) := dk_77 (dk_at dksX1_toList_0 20 rfl rfl)
theorem dX1_toList_21 : decode cX1_toList 21 = .ok (.aload_n 2, 1) := dk_44 (dk_at dksX1_toList_0 21 rfl rfl)
theorem dX1_toList_22 : decode cX1_toList 22 = .ok (.getfield 236, 3) := dk_180 0 236 (dk_at dksX1_toList_1 0 rfl rfl)
theorem dX1_toList_25 : decode cX1_toList 25 = .ok (.iconst 0, 1) := dk_3 (dk_at dksX1_toList_1 3 rfl rfl)
theorem dX1_toList_26 : decode cX1_toList 26 = .ok (.invokevirtual 240, 3) := dk_182 0 240 (dk_at dksX1_toList_1 4 rfl rfl)
theorem dX1_toList_29 : decode cX1_toList 29 = .ok (.iload_n 1, 1) := dk_27 (dk_at dksX1_toList_1 7 rfl rfl)
theorem dX1_toList_30 : decode cX1_toList 30 = .ok (.ifCond .le 12, 3) := dk_158 0 12 (dk_at dksX1_toList_1 8 rfl rfl)
theorem dX1_toList_33 : decode cX1_toList 33 = .ok (.aload_n 2, 1) := dk_44 (dk_at dksX1_toList_1 11 rfl rfl)
theorem dX1_toList_34 : decode cX1_toList 34 = .ok (.getfield 236, 3) := dk_180 0 236 (dk_at dksX1_toList_1 12 rfl rfl)
theorem dX1_toList_37 : decode cX1_toList 37 = .ok (.iconst 0, 1) := dk_3 (dk_at dksX1_toList_1 15 rfl rfl)
theorem dX1_toList_38 : decode cX1_toList 38 = .ok (.iload_n 1, 1) := dk_27 (dk_at dksX1_toList_1 16 rfl rfl)
theorem dX1_toList_39 : decode cX1_toList 39 = .ok (.invokevirtual 672, 3) := dk_182 2 160 (dk_at dksX1_toList_1 17 rfl rfl)
theorem dX1_toList_42 : decode cX1_toList 42 = .ok (.iconst 0, 1) := dk_3 (dk_at dksX1_toList_1 20 rfl rfl)
theorem dX1_toList_43 : decode cX1_toList 43 = .ok (.istore_n 3, 1) := dk_62 (dk_at dksX1_toList_1 21 rfl rfl)
theorem dX1_toList_44 : decode cX1_toList 44 = .ok (.iload_n 3, 1) := dk_29 (dk_at dksX1_toList_1 22 rfl rfl)
theorem dX1_toList_45 : decode cX1_toList 45 = .ok (.iload_n 1, 1) := dk_27 (dk_at dksX1_toList_1 23 rfl rfl)
theorem dX1_toList_46 : decode cX1_toList 46 = .ok (.if_icmp .ge 20, 3) := dk_162 0 20 (dk_at dksX1_toList_2 0 rfl rfl)
theorem dX1_toList_49 : decode cX1_toList 49 = .ok (.aload_n 2, 1) := dk_44 (dk_at dksX1_toList_2 3 rfl rfl)
theorem dX1_toList_50 : decode cX1_toList 50 = .ok (.iload_n 3, 1) := dk_29 (dk_at dksX1_toList_2 4 rfl rfl)
theorem dX1_toList_51 : decode cX1_toList 51 = .ok (.aload_n 0, 1) := dk_42 (dk_at dksX1_toList_2 5 rfl rfl)
theorem dX1_toList_52 : decode cX1_toList 52 = .ok (.getfield 129, 3) := dk_180 0 129 (dk_at dksX1_toList_2 6 rfl rfl)
theorem dX1_toList_55 : decode cX1_toList 55 = .ok (.iload_n 3, 1) := dk_29 (dk_at dksX1_toList_2 9 rfl rfl)
theorem dX1_toList_56 : decode cX1_toList 56 = .ok (.iaload, 1) := dk_46 (dk_at dksX1_toList_2 10 rfl rfl)
theorem dX1_toList_57 : decode cX1_toList 57 = .ok (.invokevirtual 675, 3) := dk_182 2 163 (dk_at dksX1_toList_2 11 rfl rfl)
theorem dX1_toList_60 : decode cX1_toList 60 = .ok (.iinc 3 1, 3) := dk_132 3 1 (dk_at dksX1_toList_2 14 rfl rfl)
theorem dX1_toList_63 : decode cX1_toList 63 = .ok (.goto (-19), 3) := dk_167 255 237 (dk_at dksX1_toList_2 17 rfl rfl)
theorem dX1_toList_66 : decode cX1_toList 66 = .ok (.aload_n 0, 1) := dk_42 (dk_at dksX1_toList_2 20 rfl rfl)
theorem dX1_toList_67 : decode cX1_toList 67 = .ok (.aload_n 2, 1) := dk_44 (dk_at dksX1_toList_2 21 rfl rfl)
theorem dX1_toList_68 : decode cX1_toList 68 = .ok (.iconst (-1), 1) := dk_2 (dk_at dksX1_toList_2 22 rfl rfl)
theorem dX1_toList_69 : decode cX1_toList 69 = .ok (.invokevirtual 288, 3) := dk_182 1 32 (dk_at dksX1_toList_3 0 rfl rfl)
theorem dX1_toList_72 : decode cX1_toList 72 = .ok (.i2l, 1) := dk_133 (dk_at dksX1_toList_3 3 rfl rfl)
theorem dX1_toList_73 : decode cX1_toList 73 = .ok (.lreturn, 1) := dk_173 (dk_at dksX1_toList_3 4 rfl rfl)
abbrev cX1_toGroups : ByteArray := prog_1_method_66_code
def yX1_toGroups : MethodName := ⟨RX1, "toGroups", "()J"⟩
def dkwX1_toGroups_3 : List UInt8 := [43, 28, 4, 182, 2, 182, 66, 167, 255, 195, 42, 43, 2, 182, 1, 32, 133, 173]
abbrev dktX1_toGroups_3 : List UInt8 := dkwX1_toGroups_3 ++ []
def dkwX1_toGroups_2 : List UInt8 := [182, 2, 177, 156, 0, 13, 43, 182, 2, 178, 17, 3, 232, 162, 0, 7, 4, 167, 0, 4, 3, 184, 2, 179]
abbrev dktX1_toGroups_2 : List UInt8 := dkwX1_toGroups_2 ++ dktX1_toGroups_3
def dkwX1_toGroups_1 : List UInt8 := [153, 0, 57, 42, 180, 0, 116, 180, 2, 167, 42, 180, 0, 116, 180, 2, 170, 184, 2, 173, 61, 43, 28]
abbrev dktX1_toGroups_1 : List UInt8 := dkwX1_toGroups_1 ++ dktX1_toGroups_2
def dkwX1_toGroups_0 : List UInt8 := [42, 5, 182, 1, 26, 192, 0, 185, 76, 43, 3, 3, 182, 0, 246, 42, 180, 0, 116, 182, 2, 165]
abbrev dktX1_toGroups_0 : List UInt8 := dkwX1_toGroups_0 ++ dktX1_toGroups_1
theorem dksX1_toGroups_0 : cX1_toGroups.data.toList.drop 0 = dktX1_toGroups_0 := by decide +kernel
theorem dksX1_toGroups_1 : cX1_toGroups.data.toList.drop 22 = dktX1_toGroups_1 := dk_seg dksX1_toGroups_0 22 rfl rfl
theorem dksX1_toGroups_2 : cX1_toGroups.data.toList.drop 45 = dktX1_toGroups_2 := dk_seg dksX1_toGroups_1 23 rfl rfl
theorem dksX1_toGroups_3 : cX1_toGroups.data.toList.drop 69 = dktX1_toGroups_3 := dk_seg dksX1_toGroups_2 24 rfl rfl
theorem dX1_toGroups_0 : decode cX1_toGroups 0 = .ok (.aload_n 0, 1) := dk_42 (dk_at dksX1_toGroups_0 0 rfl rfl)
theorem dX1_toGroups_1 : decode cX1_toGroups 1 = .ok (.iconst 2, 1) := dk_5 (dk_at dksX1_toGroups_0 1 rfl rfl)
theorem dX1_toGroups_2 : decode cX1_toGroups 2 = .ok (.invokevirtual 282, 3) := dk_182 1 26 (dk_at dksX1_toGroups_0 2 rfl rfl)
theorem dX1_toGroups_5 : decode cX1_toGroups 5 = .ok (.checkcast 185, 3) := dk_192 0 185 (dk_at dksX1_toGroups_0 5 rfl rfl)
theorem dX1_toGroups_8 : decode cX1_toGroups 8 = .ok (.astore_n 1, 1) := dk_76 (dk_at dksX1_toGroups_0 8 rfl rfl)
theorem dX1_toGroups_9 : decode cX1_toGroups 9 = .ok (.aload_n 1, 1) := dk_43 (dk_at dksX1_toGroups_0 9 rfl rfl)
theorem dX1_toGroups_10 : decode cX1_toGroups 10 = .ok (.iconst 0, 1) := dk_3 (dk_at dksX1_toGroups_0 10 rfl rfl)
theorem dX1_toGroups_11 : decode cX1_toGroups 11 = .ok (.iconst 0, 1) := dk_3 (dk_at dksX1_toGroups_0 11 rfl rfl)
theorem dX1_toGroups_12 : decode cX1_toGroups 12 = .ok (.invokevirtual 246, 3) := dk_182 0 246 (dk_at dksX1_toGroups_0 12 rfl rfl)
theorem dX1_toGroups_15 : decode cX1_toGroups 15 = .ok (.aload_n 0, 1) := dk_42 (dk_at dksX1_toGroups_0 15 rfl rfl)
theorem dX1_toGroups_16 : decode cX1_toGroups 16 = .ok (.getfield 116, 3) := dk_180 0 116 (dk_at dksX1_toGroups_0 16 rfl rfl)
theorem dX1_toGroups_19 : decode cX1_toGroups 19 = .ok (.invokevirtual 677, 3) := dk_182 2 165 (dk_at dksX1_toGroups_0 19 rfl rfl)
theorem dX1_toGroups_22 : decode cX1_toGroups 22 = .ok (.ifCond .eq 57, 3) := dk_153 0 57 (dk_at dksX1_toGroups_1 0 rfl rfl)
theorem dX1_toGroups_25 : decode cX1_toGroups 25 = .ok (.aload_n 0, 1) := dk_42 (dk_at dksX1_toGroups_1 3 rfl rfl)
theorem dX1_toGroups_26 : decode cX1_toGroups 26 = .ok (.getfield 116, 3) := dk_180 0 116 (dk_at dksX1_toGroups_1 4 rfl rfl)
theorem dX1_toGroups_29 : decode cX1_toGroups 29 = .ok (.getfield 679, 3) := dk_180 2 167 (dk_at dksX1_toGroups_1 7 rfl rfl)
theorem dX1_toGroups_32 : decode cX1_toGroups 32 = .ok (.aload_n 0, 1) := dk_42 (dk_at dksX1_toGroups_1 10 rfl rfl)
theorem dX1_toGroups_33 : decode cX1_toGroups 33 = .ok (.getfield 116, 3) := dk_180 0 116 (dk_at dksX1_toGroups_1 11 rfl rfl)
theorem dX1_toGroups_36 : decode cX1_toGroups 36 = .ok (.getfield 682, 3) := dk_180 2 170 (dk_at dksX1_toGroups_1 14 rfl rfl)
theorem dX1_toGroups_39 : decode cX1_toGroups 39 = .ok (.invokestatic 685, 3) := dk_184 2 173 (dk_at dksX1_toGroups_1 17 rfl rfl)
theorem dX1_toGroups_42 : decode cX1_toGroups 42 = .ok (.istore_n 2, 1) := dk_61 (dk_at dksX1_toGroups_1 20 rfl rfl)
theorem dX1_toGroups_43 : decode cX1_toGroups 43 = .ok (.aload_n 1, 1) := dk_43 (dk_at dksX1_toGroups_1 21 rfl rfl)
theorem dX1_toGroups_44 : decode cX1_toGroups 44 = .ok (.iload_n 2, 1) := dk_28 (dk_at dksX1_toGroups_1 22 rfl rfl)
theorem dX1_toGroups_45 : decode cX1_toGroups 45 = .ok (.invokevirtual 689, 3) := dk_182 2 177 (dk_at dksX1_toGroups_2 0 rfl rfl)
theorem dX1_toGroups_48 : decode cX1_toGroups 48 = .ok (.ifCond .ge 13, 3) := dk_156 0 13 (dk_at dksX1_toGroups_2 3 rfl rfl)
theorem dX1_toGroups_51 : decode cX1_toGroups 51 = .ok (.aload_n 1, 1) := dk_43 (dk_at dksX1_toGroups_2 6 rfl rfl)
theorem dX1_toGroups_52 : decode cX1_toGroups 52 = .ok (.invokevirtual 690, 3) := dk_182 2 178 (dk_at dksX1_toGroups_2 7 rfl rfl)
theorem dX1_toGroups_55 : decode cX1_toGroups 55 = .ok (.sipush 1000, 3) := dk_17 3 232 (dk_at dksX1_toGroups_2 10 rfl rfl)
theorem dX1_toGroups_58 : decode cX1_toGroups 58 = .ok (.if_icmp .ge 7, 3) := dk_162 0 7 (dk_at dksX1_toGroups_2 13 rfl rfl)
theorem dX1_toGroups_61 : decode cX1_toGroups 61 = .ok (.iconst 1, 1) := dk_4 (dk_at dksX1_toGroups_2 16 rfl rfl)
theorem dX1_toGroups_62 : decode cX1_toGroups 62 = .ok (.goto 4, 3) := dk_167 0 4 (dk_at dksX1_toGroups_2 17 rfl rfl)
theorem dX1_toGroups_65 : decode cX1_toGroups 65 = .ok (.iconst 0, 1) := dk_3 (dk_at dksX1_toGroups_2 20 rfl rfl)
theorem dX1_toGroups_66 : decode cX1_toGroups 66 = .ok (.invokestatic 691, 3) := dk_184 2 179 (dk_at dksX1_toGroups_2 21 rfl rfl)
theorem dX1_toGroups_69 : decode cX1_toGroups 69 = .ok (.aload_n 1, 1) := dk_43 (dk_at dksX1_toGroups_3 0 rfl rfl)
theorem dX1_toGroups_70 : decode cX1_toGroups 70 = .ok (.iload_n 2, 1) := dk_28 (dk_at dksX1_toGroups_3 1 rfl rfl)
theorem dX1_toGroups_71 : decode cX1_toGroups 71 = .ok (.iconst 1, 1) := dk_4 (dk_at dksX1_toGroups_3 2 rfl rfl)
theorem dX1_toGroups_72 : decode cX1_toGroups 72 = .ok (.invokevirtual 694, 3) := dk_182 2 182 (dk_at dksX1_toGroups_3 3 rfl rfl)
theorem dX1_toGroups_75 : decode cX1_toGroups 75 = .ok (.lstore_n 3, 1) := dk_66 (dk_at dksX1_toGroups_3 6 rfl rfl)
theorem dX1_toGroups_76 : decode cX1_toGroups 76 = .ok (.goto (-61), 3) := dk_167 255 195 (dk_at dksX1_toGroups_3 7 rfl rfl)
theorem dX1_toGroups_79 : decode cX1_toGroups 79 = .ok (.aload_n 0, 1) := dk_42 (dk_at dksX1_toGroups_3 10 rfl rfl)
theorem dX1_toGroups_80 : decode cX1_toGroups 80 = .ok (.aload_n 1, 1) := dk_43 (dk_at dksX1_toGroups_3 11 rfl rfl)
theorem dX1_toGroups_81 : decode cX1_toGroups 81 = .ok (.iconst (-1), 1) := dk_2 (dk_at dksX1_toGroups_3 12 rfl rfl)
theorem dX1_toGroups_82 : decode cX1_toGroups 82 = .ok (.invokevirtual 288, 3) := dk_182 1 32 (dk_at dksX1_toGroups_3 13 rfl rfl)
theorem dX1_toGroups_85 : decode cX1_toGroups 85 = .ok (.i2l, 1) := dk_133 (dk_at dksX1_toGroups_3 16 rfl rfl)
theorem dX1_toGroups_86 : decode cX1_toGroups 86 = .ok (.lreturn, 1) := dk_173 (dk_at dksX1_toGroups_3 17 rfl rfl)
abbrev cX1_thread : ByteArray := prog_1_method_67_code
def yX1_thread : MethodName := ⟨RX1, "thread", "()I"⟩
def dkwX1_thread_1 : List UInt8 := [191]
abbrev dktX1_thread_1 : List UInt8 := dkwX1_thread_1 ++ []
def dkwX1_thread_0 : List UInt8 := [42, 182, 1, 227, 60, 42, 180, 0, 125, 42, 180, 0, 31, 27, 182, 2, 183, 172, 77, 42, 44, 182, 1, 240]
abbrev dktX1_thread_0 : List UInt8 := dkwX1_thread_0 ++ dktX1_thread_1
theorem dksX1_thread_0 : cX1_thread.data.toList.drop 0 = dktX1_thread_0 := by decide +kernel
theorem dksX1_thread_1 : cX1_thread.data.toList.drop 24 = dktX1_thread_1 := dk_seg dksX1_thread_0 24 rfl rfl
theorem dX1_thread_0 : decode cX1_thread 0 = .ok (.aload_n 0, 1) := dk_42 (dk_at dksX1_thread_0 0 rfl rfl)
theorem dX1_thread_1 : decode cX1_thread 1 = .ok (.invokevirtual 483, 3) := dk_182 1 227 (dk_at dksX1_thread_0 1 rfl rfl)
theorem dX1_thread_4 : decode cX1_thread 4 = .ok (.istore_n 1, 1) := dk_60 (dk_at dksX1_thread_0 4 rfl rfl)
theorem dX1_thread_5 : decode cX1_thread 5 = .ok (.aload_n 0, 1) := dk_42 (dk_at dksX1_thread_0 5 rfl rfl)
theorem dX1_thread_6 : decode cX1_thread 6 = .ok (.getfield 125, 3) := dk_180 0 125 (dk_at dksX1_thread_0 6 rfl rfl)
theorem dX1_thread_9 : decode cX1_thread 9 = .ok (.aload_n 0, 1) := dk_42 (dk_at dksX1_thread_0 9 rfl rfl)
theorem dX1_thread_10 : decode cX1_thread 10 = .ok (.getfield 31, 3) := dk_180 0 31 (dk_at dksX1_thread_0 10 rfl rfl)
theorem dX1_thread_13 : decode cX1_thread 13 = .ok (.iload_n 1, 1) := dk_27 (dk_at dksX1_thread_0 13 rfl rfl)
theorem dX1_thread_14 : decode cX1_thread 14 = .ok (.invokevirtual 695, 3) := dk_182 2 183 (dk_at dksX1_thread_0 14 rfl rfl)
theorem dX1_thread_17 : decode cX1_thread 17 = .ok (.ireturn, 1) := dk_172 (dk_at dksX1_thread_0 17 rfl rfl)
theorem dX1_thread_18 : decode cX1_thread 18 = .ok (.astore_n 2, 1) := dk_77 (dk_at dksX1_thread_0 18 rfl rfl)
theorem dX1_thread_19 : decode cX1_thread 19 = .ok (.aload_n 0, 1) := dk_42 (dk_at dksX1_thread_0 19 rfl rfl)
theorem dX1_thread_20 : decode cX1_thread 20 = .ok (.aload_n 2, 1) := dk_44 (dk_at dksX1_thread_0 20 rfl rfl)
theorem dX1_thread_21 : decode cX1_thread 21 = .ok (.invokevirtual 496, 3) := dk_182 1 240 (dk_at dksX1_thread_0 21 rfl rfl)
theorem dX1_thread_24 : decode cX1_thread 24 = .ok (.athrow, 1) := dk_191 (dk_at dksX1_thread_1 0 rfl rfl)
abbrev cX1_step : ByteArray := prog_1_method_68_code
def yX1_step : MethodName := ⟨RX1, "step", "(I)I"⟩
def dkwX1_step_1 : List UInt8 := [182, 2, 187, 172]
abbrev dktX1_step_1 : List UInt8 := dkwX1_step_1 ++ []
def dkwX1_step_0 : List UInt8 := [27, 155, 0, 13, 27, 16, 8, 162, 0, 7, 4, 167, 0, 4, 3, 184, 0, 146, 42, 180, 0, 125, 27]
abbrev dktX1_step_0 : List UInt8 := dkwX1_step_0 ++ dktX1_step_1
theorem dksX1_step_0 : cX1_step.data.toList.drop 0 = dktX1_step_0 := by decide +kernel
theorem dksX1_step_1 : cX1_step.data.toList.drop 23 = dktX1_step_1 := dk_seg dksX1_step_0 23 rfl rfl
theorem dX1_step_0 : decode cX1_step 0 = .ok (.iload_n 1, 1) := dk_27 (dk_at dksX1_step_0 0 rfl rfl)
theorem dX1_step_1 : decode cX1_step 1 = .ok (.ifCond .lt 13, 3) := dk_155 0 13 (dk_at dksX1_step_0 1 rfl rfl)
theorem dX1_step_4 : decode cX1_step 4 = .ok (.iload_n 1, 1) := dk_27 (dk_at dksX1_step_0 4 rfl rfl)
theorem dX1_step_5 : decode cX1_step 5 = .ok (.bipush 8, 2) := dk_16 8 (dk_at dksX1_step_0 5 rfl rfl)
theorem dX1_step_7 : decode cX1_step 7 = .ok (.if_icmp .ge 7, 3) := dk_162 0 7 (dk_at dksX1_step_0 7 rfl rfl)
theorem dX1_step_10 : decode cX1_step 10 = .ok (.iconst 1, 1) := dk_4 (dk_at dksX1_step_0 10 rfl rfl)
theorem dX1_step_11 : decode cX1_step 11 = .ok (.goto 4, 3) := dk_167 0 4 (dk_at dksX1_step_0 11 rfl rfl)
theorem dX1_step_14 : decode cX1_step 14 = .ok (.iconst 0, 1) := dk_3 (dk_at dksX1_step_0 14 rfl rfl)
theorem dX1_step_15 : decode cX1_step 15 = .ok (.invokestatic 146, 3) := dk_184 0 146 (dk_at dksX1_step_0 15 rfl rfl)
theorem dX1_step_18 : decode cX1_step 18 = .ok (.aload_n 0, 1) := dk_42 (dk_at dksX1_step_0 18 rfl rfl)
theorem dX1_step_19 : decode cX1_step 19 = .ok (.getfield 125, 3) := dk_180 0 125 (dk_at dksX1_step_0 19 rfl rfl)
theorem dX1_step_22 : decode cX1_step 22 = .ok (.iload_n 1, 1) := dk_27 (dk_at dksX1_step_0 22 rfl rfl)
theorem dX1_step_23 : decode cX1_step 23 = .ok (.invokevirtual 699, 3) := dk_182 2 187 (dk_at dksX1_step_1 0 rfl rfl)
theorem dX1_step_26 : decode cX1_step 26 = .ok (.ireturn, 1) := dk_172 (dk_at dksX1_step_1 3 rfl rfl)
abbrev cX1_run : ByteArray := prog_1_method_69_code
def yX1_run : MethodName := ⟨RX1, "run", "(II)I"⟩
def dkwX1_run_1 : List UInt8 := [28, 182, 2, 190, 172]
abbrev dktX1_run_1 : List UInt8 := dkwX1_run_1 ++ []
def dkwX1_run_0 : List UInt8 := [28, 155, 0, 14, 28, 17, 15, 160, 163, 0, 7, 4, 167, 0, 4, 3, 184, 0, 146, 42, 180, 0, 125, 27]
abbrev dktX1_run_0 : List UInt8 := dkwX1_run_0 ++ dktX1_run_1
theorem dksX1_run_0 : cX1_run.data.toList.drop 0 = dktX1_run_0 := by decide +kernel
theorem dksX1_run_1 : cX1_run.data.toList.drop 24 = dktX1_run_1 := dk_seg dksX1_run_0 24 rfl rfl
theorem dX1_run_0 : decode cX1_run 0 = .ok (.iload_n 2, 1) := dk_28 (dk_at dksX1_run_0 0 rfl rfl)
theorem dX1_run_1 : decode cX1_run 1 = .ok (.ifCond .lt 14, 3) := dk_155 0 14 (dk_at dksX1_run_0 1 rfl rfl)
theorem dX1_run_4 : decode cX1_run 4 = .ok (.iload_n 2, 1) := dk_28 (dk_at dksX1_run_0 4 rfl rfl)
theorem dX1_run_5 : decode cX1_run 5 = .ok (.sipush 4000, 3) := dk_17 15 160 (dk_at dksX1_run_0 5 rfl rfl)
theorem dX1_run_8 : decode cX1_run 8 = .ok (.if_icmp .gt 7, 3) := dk_163 0 7 (dk_at dksX1_run_0 8 rfl rfl)
theorem dX1_run_11 : decode cX1_run 11 = .ok (.iconst 1, 1) := dk_4 (dk_at dksX1_run_0 11 rfl rfl)
theorem dX1_run_12 : decode cX1_run 12 = .ok (.goto 4, 3) := dk_167 0 4 (dk_at dksX1_run_0 12 rfl rfl)
theorem dX1_run_15 : decode cX1_run 15 = .ok (.iconst 0, 1) := dk_3 (dk_at dksX1_run_0 15 rfl rfl)
theorem dX1_run_16 : decode cX1_run 16 = .ok (.invokestatic 146, 3) := dk_184 0 146 (dk_at dksX1_run_0 16 rfl rfl)
theorem dX1_run_19 : decode cX1_run 19 = .ok (.aload_n 0, 1) := dk_42 (dk_at dksX1_run_0 19 rfl rfl)
theorem dX1_run_20 : decode cX1_run 20 = .ok (.getfield 125, 3) := dk_180 0 125 (dk_at dksX1_run_0 20 rfl rfl)
theorem dX1_run_23 : decode cX1_run 23 = .ok (.iload_n 1, 1) := dk_27 (dk_at dksX1_run_0 23 rfl rfl)
theorem dX1_run_24 : decode cX1_run 24 = .ok (.iload_n 2, 1) := dk_28 (dk_at dksX1_run_1 0 rfl rfl)
theorem dX1_run_25 : decode cX1_run 25 = .ok (.invokevirtual 702, 3) := dk_182 2 190 (dk_at dksX1_run_1 1 rfl rfl)
theorem dX1_run_28 : decode cX1_run 28 = .ok (.ireturn, 1) := dk_172 (dk_at dksX1_run_1 4 rfl rfl)
abbrev cX1_tick : ByteArray := prog_1_method_70_code
def yX1_tick : MethodName := ⟨RX1, "tick", "(I)I"⟩
def dkwX1_tick_0 : List UInt8 := [27, 155, 0, 7, 4, 167, 0, 4, 3, 184, 0, 146, 42, 180, 0, 125, 27, 182, 2, 192, 172]
abbrev dktX1_tick_0 : List UInt8 := dkwX1_tick_0 ++ []
theorem dksX1_tick_0 : cX1_tick.data.toList.drop 0 = dktX1_tick_0 := by decide +kernel
theorem dX1_tick_0 : decode cX1_tick 0 = .ok (.iload_n 1, 1) := dk_27 (dk_at dksX1_tick_0 0 rfl rfl)
theorem dX1_tick_1 : decode cX1_tick 1 = .ok (.ifCond .lt 7, 3) := dk_155 0 7 (dk_at dksX1_tick_0 1 rfl rfl)
theorem dX1_tick_4 : decode cX1_tick 4 = .ok (.iconst 1, 1) := dk_4 (dk_at dksX1_tick_0 4 rfl rfl)
theorem dX1_tick_5 : decode cX1_tick 5 = .ok (.goto 4, 3) := dk_167 0 4 (dk_at dksX1_tick_0 5 rfl rfl)
theorem dX1_tick_8 : decode cX1_tick 8 = .ok (.iconst 0, 1) := dk_3 (dk_at dksX1_tick_0 8 rfl rfl)
theorem dX1_tick_9 : decode cX1_tick 9 = .ok (.invokestatic 146, 3) := dk_184 0 146 (dk_at dksX1_tick_0 9 rfl rfl)
theorem dX1_tick_12 : decode cX1_tick 12 = .ok (.aload_n 0, 1) := dk_42 (dk_at dksX1_tick_0 12 rfl rfl)
theorem dX1_tick_13 : decode cX1_tick 13 = .ok (.getfield 125, 3) := dk_180 0 125 (dk_at dksX1_tick_0 13 rfl rfl)
theorem dX1_tick_16 : decode cX1_tick 16 = .ok (.iload_n 1, 1) := dk_27 (dk_at dksX1_tick_0 16 rfl rfl)
theorem dX1_tick_17 : decode cX1_tick 17 = .ok (.invokevirtual 704, 3) := dk_182 2 192 (dk_at dksX1_tick_0 17 rfl rfl)
theorem dX1_tick_20 : decode cX1_tick 20 = .ok (.ireturn, 1) := dk_172 (dk_at dksX1_tick_0 20 rfl rfl)
abbrev cX1_interrupt : ByteArray := prog_1_method_71_code
def yX1_interrupt : MethodName := ⟨RX1, "interrupt", "(I)I"⟩
def dkwX1_interrupt_1 : List UInt8 := [182, 2, 195, 172]
abbrev dktX1_interrupt_1 : List UInt8 := dkwX1_interrupt_1 ++ []
def dkwX1_interrupt_0 : List UInt8 := [27, 155, 0, 13, 27, 16, 8, 162, 0, 7, 4, 167, 0, 4, 3, 184, 0, 146, 42, 180, 0, 125, 27]
abbrev dktX1_interrupt_0 : List UInt8 := dkwX1_interrupt_0 ++ dktX1_interrupt_1
theorem dksX1_interrupt_0 : cX1_interrupt.data.toList.drop 0 = dktX1_interrupt_0 := by decide +kernel
theorem dksX1_interrupt_1 : cX1_interrupt.data.toList.drop 23 = dktX1_interrupt_1 := dk_seg dksX1_interrupt_0 23 rfl rfl
theorem dX1_interrupt_0 : decode cX1_interrupt 0 = .ok (.iload_n 1, 1) := dk_27 (dk_at dksX1_interrupt_0 0 rfl rfl)
theorem dX1_interrupt_1 : decode cX1_interrupt 1 = .ok (.ifCond .lt 13, 3) := dk_155 0 13 (dk_at dksX1_interrupt_0 1 rfl rfl)
theorem dX1_interrupt_4 : decode cX1_interrupt 4 = .ok (.iload_n 1, 1) := dk_27 (dk_at dksX1_interrupt_0 4 rfl rfl)
theorem dX1_interrupt_5 : decode cX1_interrupt 5 = .ok (.bipush 8, 2) := dk_16 8 (dk_at dksX1_interrupt_0 5 rfl rfl)
theorem dX1_interrupt_7 : decode cX1_interrupt 7 = .ok (.if_icmp .ge 7, 3) := dk_162 0 7 (dk_at dksX1_interrupt_0 7 rfl rfl)
theorem dX1_interrupt_10 : decode cX1_interrupt 10 = .ok (.iconst 1, 1) := dk_4 (dk_at dksX1_interrupt_0 10 rfl rfl)
theorem dX1_interrupt_11 : decode cX1_interrupt 11 = .ok (.goto 4, 3) := dk_167 0 4 (dk_at dksX1_interrupt_0 11 rfl rfl)
theorem dX1_interrupt_14 : decode cX1_interrupt 14 = .ok (.iconst 0, 1) := dk_3 (dk_at dksX1_interrupt_0 14 rfl rfl)
theorem dX1_interrupt_15 : decode cX1_interrupt 15 = .ok (.invokestatic 146, 3) := dk_184 0 146 (dk_at dksX1_interrupt_0 15 rfl rfl)
theorem dX1_interrupt_18 : decode cX1_interrupt 18 = .ok (.aload_n 0, 1) := dk_42 (dk_at dksX1_interrupt_0 18 rfl rfl)
theorem dX1_interrupt_19 : decode cX1_interrupt 19 = .ok (.getfield 125, 3) := dk_180 0 125 (dk_at dksX1_interrupt_0 19 rfl rfl)
theorem dX1_interrupt_22 : decode cX1_interrupt 22 = .ok (.iload_n 1, 1) := dk_27 (dk_at dksX1_interrupt_0 22 rfl rfl)
theorem dX1_interrupt_23 : decode cX1_interrupt 23 = .ok (.invokevirtual 707, 3) := dk_182 2 195 (dk_at dksX1_interrupt_1 0 rfl rfl)
theorem dX1_interrupt_26 : decode cX1_interrupt 26 = .ok (.ireturn, 1) := dk_172 (dk_at dksX1_interrupt_1 3 rfl rfl)
abbrev cX1_look : ByteArray := prog_1_method_72_code
def yX1_look : MethodName := ⟨RX1, "look", "(II)J"⟩
def dkwX1_look_1 : List UInt8 := [184, 0, 146, 42, 180, 0, 125, 27, 28, 182, 2, 198, 173]
abbrev dktX1_look_1 : List UInt8 := dkwX1_look_1 ++ []
def dkwX1_look_0 : List UInt8 := [27, 155, 0, 22, 27, 16, 8, 162, 0, 16, 28, 155, 0, 12, 28, 8, 163, 0, 7, 4, 167, 0, 4, 3]
abbrev dktX1_look_0 : List UInt8 := dkwX1_look_0 ++ dktX1_look_1
theorem dksX1_look_0 : cX1_look.data.toList.drop 0 = dktX1_look_0 := by decide +kernel
theorem dksX1_look_1 : cX1_look.data.toList.drop 24 = dktX1_look_1 := dk_seg dksX1_look_0 24 rfl rfl
theorem dX1_look_0 : decode cX1_look 0 = .ok (.iload_n 1, 1) := dk_27 (dk_at dksX1_look_0 0 rfl rfl)
theorem dX1_look_1 : decode cX1_look 1 = .ok (.ifCond .lt 22, 3) := dk_155 0 22 (dk_at dksX1_look_0 1 rfl rfl)
theorem dX1_look_4 : decode cX1_look 4 = .ok (.iload_n 1, 1) := dk_27 (dk_at dksX1_look_0 4 rfl rfl)
theorem dX1_look_5 : decode cX1_look 5 = .ok (.bipush 8, 2) := dk_16 8 (dk_at dksX1_look_0 5 rfl rfl)
theorem dX1_look_7 : decode cX1_look 7 = .ok (.if_icmp .ge 16, 3) := dk_162 0 16 (dk_at dksX1_look_0 7 rfl rfl)
theorem dX1_look_10 : decode cX1_look 10 = .ok (.iload_n 2, 1) := dk_28 (dk_at dksX1_look_0 10 rfl rfl)
theorem dX1_look_11 : decode cX1_look 11 = .ok (.ifCond .lt 12, 3) := dk_155 0 12 (dk_at dksX1_look_0 11 rfl rfl)
theorem dX1_look_14 : decode cX1_look 14 = .ok (.iload_n 2, 1) := dk_28 (dk_at dksX1_look_0 14 rfl rfl)
theorem dX1_look_15 : decode cX1_look 15 = .ok (.iconst 5, 1) := dk_8 (dk_at dksX1_look_0 15 rfl rfl)
theorem dX1_look_16 : decode cX1_look 16 = .ok (.if_icmp .gt 7, 3) := dk_163 0 7 (dk_at dksX1_look_0 16 rfl rfl)
theorem dX1_look_19 : decode cX1_look 19 = .ok (.iconst 1, 1) := dk_4 (dk_at dksX1_look_0 19 rfl rfl)
theorem dX1_look_20 : decode cX1_look 20 = .ok (.goto 4, 3) := dk_167 0 4 (dk_at dksX1_look_0 20 rfl rfl)
theorem dX1_look_23 : decode cX1_look 23 = .ok (.iconst 0, 1) := dk_3 (dk_at dksX1_look_0 23 rfl rfl)
theorem dX1_look_24 : decode cX1_look 24 = .ok (.invokestatic 146, 3) := dk_184 0 146 (dk_at dksX1_look_1 0 rfl rfl)
theorem dX1_look_27 : decode cX1_look 27 = .ok (.aload_n 0, 1) := dk_42 (dk_at dksX1_look_1 3 rfl rfl)
theorem dX1_look_28 : decode cX1_look 28 = .ok (.getfield 125, 3) := dk_180 0 125 (dk_at dksX1_look_1 4 rfl rfl)
theorem dX1_look_31 : decode cX1_look 31 = .ok (.iload_n 1, 1) := dk_27 (dk_at dksX1_look_1 7 rfl rfl)
theorem dX1_look_32 : decode cX1_look 32 = .ok (.iload_n 2, 1) := dk_28 (dk_at dksX1_look_1 8 rfl rfl)
theorem dX1_look_33 : decode cX1_look 33 = .ok (.invokevirtual 710, 3) := dk_182 2 198 (dk_at dksX1_look_1 9 rfl rfl)
theorem dX1_look_36 : decode cX1_look 36 = .ok (.lreturn, 1) := dk_173 (dk_at dksX1_look_1 12 rfl rfl)
abbrev cX1_sync : ByteArray := prog_1_method_74_code
def yX1_sync : MethodName := ⟨RX1, "sync", "(II)J"⟩
def dkwX1_sync_3 : List UInt8 := [192, 0, 219, 28, 184, 2, 204, 173]
abbrev dktX1_sync_3 : List UInt8 := dkwX1_sync_3 ++ []
def dkwX1_sync_2 : List UInt8 := [160, 0, 19, 167, 0, 12, 45, 182, 0, 166, 16, 13, 160, 0, 7, 4, 167, 0, 4, 3, 184, 1, 85, 45]
abbrev dktX1_sync_2 : List UInt8 := dkwX1_sync_2 ++ dktX1_sync_3
def dkwX1_sync_1 : List UInt8 := [167, 0, 4, 3, 184, 0, 146, 28, 5, 161, 0, 29, 28, 7, 160, 0, 15, 45, 182, 0, 166, 16, 17]
abbrev dktX1_sync_1 : List UInt8 := dkwX1_sync_1 ++ dktX1_sync_2
def dkwX1_sync_0 : List UInt8 := [42, 27, 182, 0, 155, 78, 45, 193, 0, 219, 184, 0, 161, 28, 155, 0, 12, 28, 7, 163, 0, 7, 4]
abbrev dktX1_sync_0 : List UInt8 := dkwX1_sync_0 ++ dktX1_sync_1
theorem dksX1_sync_0 : cX1_sync.data.toList.drop 0 = dktX1_sync_0 := by decide +kernel
theorem dksX1_sync_1 : cX1_sync.data.toList.drop 23 = dktX1_sync_1 := dk_seg dksX1_sync_0 23 rfl rfl
theorem dksX1_sync_2 : cX1_sync.data.toList.drop 46 = dktX1_sync_2 := dk_seg dksX1_sync_1 23 rfl rfl
theorem dksX1_sync_3 : cX1_sync.data.toList.drop 70 = dktX1_sync_3 := dk_seg dksX1_sync_2 24 rfl rfl
theorem dX1_sync_0 : decode cX1_sync 0 = .ok (.aload_n 0, 1) := dk_42 (dk_at dksX1_sync_0 0 rfl rfl)
theorem dX1_sync_1 : decode cX1_sync 1 = .ok (.iload_n 1, 1) := dk_27 (dk_at dksX1_sync_0 1 rfl rfl)
theorem dX1_sync_2 : decode cX1_sync 2 = .ok (.invokevirtual 155, 3) := dk_182 0 155 (dk_at dksX1_sync_0 2 rfl rfl)
theorem dX1_sync_5 : decode cX1_sync 5 = .ok (.astore_n 3, 1) := dk_78 (dk_at dksX1_sync_0 5 rfl rfl)
theorem dX1_sync_6 : decode cX1_sync 6 = .ok (.aload_n 3, 1) := dk_45 (dk_at dksX1_sync_0 6 rfl rfl)
theorem dX1_sync_7 : decode cX1_sync 7 = .ok (.instanceof 219, 3) := dk_193 0 219 (dk_at dksX1_sync_0 7 rfl rfl)
theorem dX1_sync_10 : decode cX1_sync 10 = .ok (.invokestatic 161, 3) := dk_184 0 161 (dk_at dksX1_sync_0 10 rfl rfl)
theorem dX1_sync_13 : decode cX1_sync 13 = .ok (.iload_n 2, 1) := dk_28 (dk_at dksX1_sync_0 13 rfl rfl)
theorem dX1_sync_14 : decode cX1_sync 14 = .ok (.ifCond .lt 12, 3) := dk_155 0 12 (dk_at dksX1_sync_0 14 rfl rfl)
theorem dX1_sync_17 : decode cX1_sync 17 = .ok (.iload_n 2, 1) := dk_28 (dk_at dksX1_sync_0 17 rfl rfl)
theorem dX1_sync_18 : decode cX1_sync 18 = .ok (.iconst 4, 1) := dk_7 (dk_at dksX1_sync_0 18 rfl rfl)
theorem dX1_sync_19 : decode cX1_sync 19 = .ok (.if_icmp .gt 7, 3) := dk_163 0 7 (dk_at dksX1_sync_0 19 rfl rfl)
theorem dX1_sync_22 : decode cX1_sync 22 = .ok (.iconst 1, 1) := dk_4 (dk_at dksX1_sync_0 22 rfl rfl)
theorem dX1_sync_23 : decode cX1_sync 23 = .ok (.goto 4, 3) := dk_167 0 4 (dk_at dksX1_sync_1 0 rfl rfl)
theorem dX1_sync_26 : decode cX1_sync 26 = .ok (.iconst 0, 1) := dk_3 (dk_at dksX1_sync_1 3 rfl rfl)
theorem dX1_sync_27 : decode cX1_sync 27 = .ok (.invokestatic 146, 3) := dk_184 0 146 (dk_at dksX1_sync_1 4 rfl rfl)
theorem dX1_sync_30 : decode cX1_sync 30 = .ok (.iload_n 2, 1) := dk_28 (dk_at dksX1_sync_1 7 rfl rfl)
theorem dX1_sync_31 : decode cX1_sync 31 = .ok (.iconst 2, 1) := dk_5 (dk_at dksX1_sync_1 8 rfl rfl)
theorem dX1_sync_32 : decode cX1_sync 32 = .ok (.if_icmp .lt 29, 3) := dk_161 0 29 (dk_at dksX1_sync_1 9 rfl rfl)
theorem dX1_sync_35 : decode cX1_sync 35 = .ok (.iload_n 2, 1) := dk_28 (dk_at dksX1_sync_1 12 rfl rfl)
theorem dX1_sync_36 : decode cX1_sync 36 = .ok (.iconst 4, 1) := dk_7 (dk_at dksX1_sync_1 13 rfl rfl)
theorem dX1_sync_37 : decode cX1_sync 37 = .ok (.if_icmp .ne 15, 3) := dk_160 0 15 (dk_at dksX1_sync_1 14 rfl rfl)
theorem dX1_sync_40 : decode cX1_sync 40 = .ok (.aload_n 3, 1) := dk_45 (dk_at dksX1_sync_1 17 rfl rfl)
theorem dX1_sync_41 : decode cX1_sync 41 = .ok (.invokevirtual 166, 3) := dk_182 0 166 (dk_at dksX1_sync_1 18 rfl rfl)
theorem dX1_sync_44 : decode cX1_sync 44 = .ok (.bipush 17, 2) := dk_16 17 (dk_at dksX1_sync_1 21 rfl rfl)
theorem dX1_sync_46 : decode cX1_sync 46 = .ok (.if_icmp .ne 19, 3) := dk_160 0 19 (dk_at dksX1_sync_2 0 rfl rfl)
theorem dX1_sync_49 : decode cX1_sync 49 = .ok (.goto 12, 3) := dk_167 0 12 (dk_at dksX1_sync_2 3 rfl rfl)
theorem dX1_sync_52 : decode cX1_sync 52 = .ok (.aload_n 3, 1) := dk_45 (dk_at dksX1_sync_2 6 rfl rfl)
theorem dX1_sync_53 : decode cX1_sync 53 = .ok (.invokevirtual 166, 3) := dk_182 0 166 (dk_at dksX1_sync_2 7 rfl rfl)
theorem dX1_sync_56 : decode cX1_sync 56 = .ok (.bipush 13, 2) := dk_16 13 (dk_at dksX1_sync_2 10 rfl rfl)
theorem dX1_sync_58 : decode cX1_sync 58 = .ok (.if_icmp .ne 7, 3) := dk_160 0 7 (dk_at dksX1_sync_2 12 rfl rfl)
theorem dX1_sync_61 : decode cX1_sync 61 = .ok (.iconst 1, 1) := dk_4 (dk_at dksX1_sync_2 15 rfl rfl)
theorem dX1_sync_62 : decode cX1_sync 62 = .ok (.goto 4, 3) := dk_167 0 4 (dk_at dksX1_sync_2 16 rfl rfl)
theorem dX1_sync_65 : decode cX1_sync 65 = .ok (.iconst 0, 1) := dk_3 (dk_at dksX1_sync_2 19 rfl rfl)
theorem dX1_sync_66 : decode cX1_sync 66 = .ok (.invokestatic 341, 3) := dk_184 1 85 (dk_at dksX1_sync_2 20 rfl rfl)
theorem dX1_sync_69 : decode cX1_sync 69 = .ok (.aload_n 3, 1) := dk_45 (dk_at dksX1_sync_2 23 rfl rfl)
theorem dX1_sync_70 : decode cX1_sync 70 = .ok (.checkcast 219, 3) := dk_192 0 219 (dk_at dksX1_sync_3 0 rfl rfl)
theorem dX1_sync_73 : decode cX1_sync 73 = .ok (.iload_n 2, 1) := dk_28 (dk_at dksX1_sync_3 3 rfl rfl)
theorem dX1_sync_74 : decode cX1_sync 74 = .ok (.invokestatic 716, 3) := dk_184 2 204 (dk_at dksX1_sync_3 4 rfl rfl)
theorem dX1_sync_77 : decode cX1_sync 77 = .ok (.lreturn, 1) := dk_173 (dk_at dksX1_sync_3 7 rfl rfl)
abbrev cX1_date : ByteArray := prog_1_method_75_code
def yX1_date : MethodName := ⟨RX1, "date", "(III)I"⟩
def dkwX1_date_2 : List UInt8 := [184, 0, 146, 27, 28, 29, 184, 2, 213, 172]
abbrev dktX1_date_2 : List UInt8 := dkwX1_date_2 ++ []
def dkwX1_date_1 : List UInt8 := [163, 0, 21, 29, 4, 161, 0, 16, 29, 27, 28, 184, 2, 210, 163, 0, 7, 4, 167, 0, 4, 3]
abbrev dktX1_date_1 : List UInt8 := dkwX1_date_1 ++ dktX1_date_2
def dkwX1_date_0 : List UInt8 := [27, 17, 216, 241, 161, 0, 39, 27, 17, 39, 15, 163, 0, 32, 28, 4, 161, 0, 27, 28, 16, 12]
abbrev dktX1_date_0 : List UInt8 := dkwX1_date_0 ++ dktX1_date_1
theorem dksX1_date_0 : cX1_date.data.toList.drop 0 = dktX1_date_0 := by decide +kernel
theorem dksX1_date_1 : cX1_date.data.toList.drop 22 = dktX1_date_1 := dk_seg dksX1_date_0 22 rfl rfl
theorem dksX1_date_2 : cX1_date.data.toList.drop 44 = dktX1_date_2 := dk_seg dksX1_date_1 22 rfl rfl
theorem dX1_date_0 : decode cX1_date 0 = .ok (.iload_n 1, 1) := dk_27 (dk_at dksX1_date_0 0 rfl rfl)
theorem dX1_date_1 : decode cX1_date 1 = .ok (.sipush (-9999), 3) := dk_17 216 241 (dk_at dksX1_date_0 1 rfl rfl)
theorem dX1_date_4 : decode cX1_date 4 = .ok (.if_icmp .lt 39, 3) := dk_161 0 39 (dk_at dksX1_date_0 4 rfl rfl)
theorem dX1_date_7 : decode cX1_date 7 = .ok (.iload_n 1, 1) := dk_27 (dk_at dksX1_date_0 7 rfl rfl)
theorem dX1_date_8 : decode cX1_date 8 = .ok (.sipush 9999, 3) := dk_17 39 15 (dk_at dksX1_date_0 8 rfl rfl)
theorem dX1_date_11 : decode cX1_date 11 = .ok (.if_icmp .gt 32, 3) := dk_163 0 32 (dk_at dksX1_date_0 11 rfl rfl)
theorem dX1_date_14 : decode cX1_date 14 = .ok (.iload_n 2, 1) := dk_28 (dk_at dksX1_date_0 14 rfl rfl)
theorem dX1_date_15 : decode cX1_date 15 = .ok (.iconst 1, 1) := dk_4 (dk_at dksX1_date_0 15 rfl rfl)
theorem dX1_date_16 : decode cX1_date 16 = .ok (.if_icmp .lt 27, 3) := dk_161 0 27 (dk_at dksX1_date_0 16 rfl rfl)
theorem dX1_date_19 : decode cX1_date 19 = .ok (.iload_n 2, 1) := dk_28 (dk_at dksX1_date_0 19 rfl rfl)
theorem dX1_date_20 : decode cX1_date 20 = .ok (.bipush 12, 2) := dk_16 12 (dk_at dksX1_date_0 20 rfl rfl)
theorem dX1_date_22 : decode cX1_date 22 = .ok (.if_icmp .gt 21, 3) := dk_163 0 21 (dk_at dksX1_date_1 0 rfl rfl)
theorem dX1_date_25 : decode cX1_date 25 = .ok (.iload_n 3, 1) := dk_29 (dk_at dksX1_date_1 3 rfl rfl)
theorem dX1_date_26 : decode cX1_date 26 = .ok (.iconst 1, 1) := dk_4 (dk_at dksX1_date_1 4 rfl rfl)
theorem dX1_date_27 : decode cX1_date 27 = .ok (.if_icmp .lt 16, 3) := dk_161 0 16 (dk_at dksX1_date_1 5 rfl rfl)
theorem dX1_date_30 : decode cX1_date 30 = .ok (.iload_n 3, 1) := dk_29 (dk_at dksX1_date_1 8 rfl rfl)
theorem dX1_date_31 : decode cX1_date 31 = .ok (.iload_n 1, 1) := dk_27 (dk_at dksX1_date_1 9 rfl rfl)
theorem dX1_date_32 : decode cX1_date 32 = .ok (.iload_n 2, 1) := dk_28 (dk_at dksX1_date_1 10 rfl rfl)
theorem dX1_date_33 : decode cX1_date 33 = .ok (.invokestatic 722, 3) := dk_184 2 210 (dk_at dksX1_date_1 11 rfl rfl)
theorem dX1_date_36 : decode cX1_date 36 = .ok (.if_icmp .gt 7, 3) := dk_163 0 7 (dk_at dksX1_date_1 14 rfl rfl)
theorem dX1_date_39 : decode cX1_date 39 = .ok (.iconst 1, 1) := dk_4 (dk_at dksX1_date_1 17 rfl rfl)
theorem dX1_date_40 : decode cX1_date 40 = .ok (.goto 4, 3) := dk_167 0 4 (dk_at dksX1_date_1 18 rfl rfl)
theorem dX1_date_43 : decode cX1_date 43 = .ok (.iconst 0, 1) := dk_3 (dk_at dksX1_date_1 21 rfl rfl)
theorem dX1_date_44 : decode cX1_date 44 = .ok (.invokestatic 146, 3) := dk_184 0 146 (dk_at dksX1_date_2 0 rfl rfl)
theorem dX1_date_47 : decode cX1_date 47 = .ok (.iload_n 1, 1) := dk_27 (dk_at dksX1_date_2 3 rfl rfl)
theorem dX1_date_48 : decode cX1_date 48 = .ok (.iload_n 2, 1) := dk_28 (dk_at dksX1_date_2 4 rfl rfl)
theorem dX1_date_49 : decode cX1_date 49 = .ok (.iload_n 3, 1) := dk_29 (dk_at dksX1_date_2 5 rfl rfl)
theorem dX1_date_50 : decode cX1_date 50 = .ok (.invokestatic 725, 3) := dk_184 2 213 (dk_at dksX1_date_2 6 rfl rfl)
theorem dX1_date_53 : decode cX1_date 53 = .ok (.ireturn, 1) := dk_172 (dk_at dksX1_date_2 9 rfl rfl)
abbrev cX1_part : ByteArray := prog_1_method_76_code
def yX1_part : MethodName := ⟨RX1, "part", "(II)I"⟩
def dkwX1_part_1 : List UInt8 := [184, 0, 146, 27, 28, 184, 2, 220, 172]
abbrev dktX1_part_1 : List UInt8 := dkwX1_part_1 ++ []
def dkwX1_part_0 : List UInt8 := [27, 184, 2, 217, 153, 0, 17, 28, 155, 0, 13, 28, 16, 8, 163, 0, 7, 4, 167, 0, 4, 3]
abbrev dktX1_part_0 : List UInt8 := dkwX1_part_0 ++ dktX1_part_1
theorem dksX1_part_0 : cX1_part.data.toList.drop 0 = dktX1_part_0 := by decide +kernel
theorem dksX1_part_1 : cX1_part.data.toList.drop 22 = dktX1_part_1 := dk_seg dksX1_part_0 22 rfl rfl
theorem dX1_part_0 : decode cX1_part 0 = .ok (.iload_n 1, 1) := dk_27 (dk_at dksX1_part_0 0 rfl rfl)
theorem dX1_part_1 : decode cX1_part 1 = .ok (.invokestatic 729, 3) := dk_184 2 217 (dk_at dksX1_part_0 1 rfl rfl)
theorem dX1_part_4 : decode cX1_part 4 = .ok (.ifCond .eq 17, 3) := dk_153 0 17 (dk_at dksX1_part_0 4 rfl rfl)
theorem dX1_part_7 : decode cX1_part 7 = .ok (.iload_n 2, 1) := dk_28 (dk_at dksX1_part_0 7 rfl rfl)
theorem dX1_part_8 : decode cX1_part 8 = .ok (.ifCond .lt 13, 3) := dk_155 0 13 (dk_at dksX1_part_0 8 rfl rfl)
theorem dX1_part_11 : decode cX1_part 11 = .ok (.iload_n 2, 1) := dk_28 (dk_at dksX1_part_0 11 rfl rfl)
theorem dX1_part_12 : decode cX1_part 12 = .ok (.bipush 8, 2) := dk_16 8 (dk_at dksX1_part_0 12 rfl rfl)
theorem dX1_part_14 : decode cX1_part 14 = .ok (.if_icmp .gt 7, 3) := dk_163 0 7 (dk_at dksX1_part_0 14 rfl rfl)
theorem dX1_part_17 : decode cX1_part 17 = .ok (.iconst 1, 1) := dk_4 (dk_at dksX1_part_0 17 rfl rfl)
theorem dX1_part_18 : decode cX1_part 18 = .ok (.goto 4, 3) := dk_167 0 4 (dk_at dksX1_part_0 18 rfl rfl)
theorem dX1_part_21 : decode cX1_part 21 = .ok (.iconst 0, 1) := dk_3 (dk_at dksX1_part_0 21 rfl rfl)
theorem dX1_part_22 : decode cX1_part 22 = .ok (.invokestatic 146, 3) := dk_184 0 146 (dk_at dksX1_part_1 0 rfl rfl)
theorem dX1_part_25 : decode cX1_part 25 = .ok (.iload_n 1, 1) := dk_27 (dk_at dksX1_part_1 3 rfl rfl)
theorem dX1_part_26 : decode cX1_part 26 = .ok (.iload_n 2, 1) := dk_28 (dk_at dksX1_part_1 4 rfl rfl)
theorem dX1_part_27 : decode cX1_part 27 = .ok (.invokestatic 732, 3) := dk_184 2 220 (dk_at dksX1_part_1 5 rfl rfl)
theorem dX1_part_30 : decode cX1_part 30 = .ok (.ireturn, 1) := dk_172 (dk_at dksX1_part_1 8 rfl rfl)
abbrev cX1_plus : ByteArray := prog_1_method_77_code
def yX1_plus : MethodName := ⟨RX1, "plus", "(III)I"⟩
def dkwX1_plus_1 : List UInt8 := [27, 28, 29, 184, 2, 223, 172]
abbrev dktX1_plus_1 : List UInt8 := dkwX1_plus_1 ++ []
def dkwX1_plus_0 : List UInt8 := [27, 184, 2, 217, 153, 0, 16, 28, 155, 0, 12, 28, 6, 163, 0, 7, 4, 167, 0, 4, 3, 184, 0, 146]
abbrev dktX1_plus_0 : List UInt8 := dkwX1_plus_0 ++ dktX1_plus_1
theorem dksX1_plus_0 : cX1_plus.data.toList.drop 0 = dktX1_plus_0 := by decide +kernel
theorem dksX1_plus_1 : cX1_plus.data.toList.drop 24 = dktX1_plus_1 := dk_seg dksX1_plus_0 24 rfl rfl
theorem dX1_plus_0 : decode cX1_plus 0 = .ok (.iload_n 1, 1) := dk_27 (dk_at dksX1_plus_0 0 rfl rfl)
theorem dX1_plus_1 : decode cX1_plus 1 = .ok (.invokestatic 729, 3) := dk_184 2 217 (dk_at dksX1_plus_0 1 rfl rfl)
theorem dX1_plus_4 : decode cX1_plus 4 = .ok (.ifCond .eq 16, 3) := dk_153 0 16 (dk_at dksX1_plus_0 4 rfl rfl)
theorem dX1_plus_7 : decode cX1_plus 7 = .ok (.iload_n 2, 1) := dk_28 (dk_at dksX1_plus_0 7 rfl rfl)
theorem dX1_plus_8 : decode cX1_plus 8 = .ok (.ifCond .lt 12, 3) := dk_155 0 12 (dk_at dksX1_plus_0 8 rfl rfl)
theorem dX1_plus_11 : decode cX1_plus 11 = .ok (.iload_n 2, 1) := dk_28 (dk_at dksX1_plus_0 11 rfl rfl)
theorem dX1_plus_12 : decode cX1_plus 12 = .ok (.iconst 3, 1) := dk_6 (dk_at dksX1_plus_0 12 rfl rfl)
theorem dX1_plus_13 : decode cX1_plus 13 = .ok (.if_icmp .gt 7, 3) := dk_163 0 7 (dk_at dksX1_plus_0 13 rfl rfl)
theorem dX1_plus_16 : decode cX1_plus 16 = .ok (.iconst 1, 1) := dk_4 (dk_at dksX1_plus_0 16 rfl rfl)
theorem dX1_plus_17 : decode cX1_plus 17 = .ok (.goto 4, 3) := dk_167 0 4 (dk_at dksX1_plus_0 17 rfl rfl)
theorem dX1_plus_20 : decode cX1_plus 20 = .ok (.iconst 0, 1) := dk_3 (dk_at dksX1_plus_0 20 rfl rfl)
theorem dX1_plus_21 : decode cX1_plus 21 = .ok (.invokestatic 146, 3) := dk_184 0 146 (dk_at dksX1_plus_0 21 rfl rfl)
theorem dX1_plus_24 : decode cX1_plus 24 = .ok (.iload_n 1, 1) := dk_27 (dk_at dksX1_plus_1 0 rfl rfl)
theorem dX1_plus_25 : decode cX1_plus 25 = .ok (.iload_n 2, 1) := dk_28 (dk_at dksX1_plus_1 1 rfl rfl)
theorem dX1_plus_26 : decode cX1_plus 26 = .ok (.iload_n 3, 1) := dk_29 (dk_at dksX1_plus_1 2 rfl rfl)
theorem dX1_plus_27 : decode cX1_plus 27 = .ok (.invokestatic 735, 3) := dk_184 2 223 (dk_at dksX1_plus_1 3 rfl rfl)
theorem dX1_plus_30 : decode cX1_plus 30 = .ok (.ireturn, 1) := dk_172 (dk_at dksX1_plus_1 6 rfl rfl)
abbrev cX1_between : ByteArray := prog_1_method_78_code
def yX1_between : MethodName := ⟨RX1, "between", "(III)I"⟩
def dkwX1_between_1 : List UInt8 := [167, 0, 4, 3, 184, 0, 146, 27, 28, 29, 184, 2, 226, 172]
abbrev dktX1_between_1 : List UInt8 := dkwX1_between_1 ++ []
def dkwX1_between_0 : List UInt8 := [27, 184, 2, 217, 153, 0, 23, 28, 184, 2, 217, 153, 0, 16, 29, 155, 0, 12, 29, 6, 163, 0, 7, 4]
abbrev dktX1_between_0 : List UInt8 := dkwX1_between_0 ++ dktX1_between_1
theorem dksX1_between_0 : cX1_between.data.toList.drop 0 = dktX1_between_0 := by decide +kernel
theorem dksX1_between_1 : cX1_between.data.toList.drop 24 = dktX1_between_1 := dk_seg dksX1_between_0 24 rfl rfl
theorem dX1_between_0 : decode cX1_between 0 = .ok (.iload_n 1, 1) := dk_27 (dk_at dksX1_between_0 0 rfl rfl)
theorem dX1_between_1 : decode cX1_between 1 = .ok (.invokestatic 729, 3) := dk_184 2 217 (dk_at dksX1_between_0 1 rfl rfl)
theorem dX1_between_4 : decode cX1_between 4 = .ok (.ifCond .eq 23, 3) := dk_153 0 23 (dk_at dksX1_between_0 4 rfl rfl)
theorem dX1_between_7 : decode cX1_between 7 = .ok (.iload_n 2, 1) := dk_28 (dk_at dksX1_between_0 7 rfl rfl)
theorem dX1_between_8 : decode cX1_between 8 = .ok (.invokestatic 729, 3) := dk_184 2 217 (dk_at dksX1_between_0 8 rfl rfl)
theorem dX1_between_11 : decode cX1_between 11 = .ok (.ifCond .eq 16, 3) := dk_153 0 16 (dk_at dksX1_between_0 11 rfl rfl)
theorem dX1_between_14 : decode cX1_between 14 = .ok (.iload_n 3, 1) := dk_29 (dk_at dksX1_between_0 14 rfl rfl)
theorem dX1_between_15 : decode cX1_between 15 = .ok (.ifCond .lt 12, 3) := dk_155 0 12 (dk_at dksX1_between_0 15 rfl rfl)
theorem dX1_between_18 : decode cX1_between 18 = .ok (.iload_n 3, 1) := dk_29 (dk_at dksX1_between_0 18 rfl rfl)
theorem dX1_between_19 : decode cX1_between 19 = .ok (.iconst 3, 1) := dk_6 (dk_at dksX1_between_0 19 rfl rfl)
theorem dX1_between_20 : decode cX1_between 20 = .ok (.if_icmp .gt 7, 3) := dk_163 0 7 (dk_at dksX1_between_0 20 rfl rfl)
theorem dX1_between_23 : decode cX1_between 23 = .ok (.iconst 1, 1) := dk_4 (dk_at dksX1_between_0 23 rfl rfl)
theorem dX1_between_24 : decode cX1_between 24 = .ok (.goto 4, 3) := dk_167 0 4 (dk_at dksX1_between_1 0 rfl rfl)
theorem dX1_between_27 : decode cX1_between 27 = .ok (.iconst 0, 1) := dk_3 (dk_at dksX1_between_1 3 rfl rfl)
theorem dX1_between_28 : decode cX1_between 28 = .ok (.invokestatic 146, 3) := dk_184 0 146 (dk_at dksX1_between_1 4 rfl rfl)
theorem dX1_between_31 : decode cX1_between 31 = .ok (.iload_n 1, 1) := dk_27 (dk_at dksX1_between_1 7 rfl rfl)
theorem dX1_between_32 : decode cX1_between 32 = .ok (.iload_n 2, 1) := dk_28 (dk_at dksX1_between_1 8 rfl rfl)
theorem dX1_between_33 : decode cX1_between 33 = .ok (.iload_n 3, 1) := dk_29 (dk_at dksX1_between_1 9 rfl rfl)
theorem dX1_between_34 : decode cX1_between 34 = .ok (.invokestatic 738, 3) := dk_184 2 226 (dk_at dksX1_between_1 10 rfl rfl)
theorem dX1_between_37 : decode cX1_between 37 = .ok (.ireturn, 1) := dk_172 (dk_at dksX1_between_1 13 rfl rfl)
abbrev cX1_word : ByteArray := prog_1_method_79_code
def yX1_word : MethodName := ⟨RX1, "word", "(I)J"⟩
def dkwX1_word_0 : List UInt8 := [42, 180, 0, 38, 27, 182, 2, 229, 173]
abbrev dktX1_word_0 : List UInt8 := dkwX1_word_0 ++ []
theorem dksX1_word_0 : cX1_word.data.toList.drop 0 = dktX1_word_0 := by decide +kernel
theorem dX1_word_0 : decode cX1_word 0 = .ok (.aload_n 0, 1) := dk_42 (dk_at dksX1_word_0 0 rfl rfl)
theorem dX1_word_1 : decode cX1_word 1 = .ok (.getfield 38, 3) := dk_180 0 38 (dk_at dksX1_word_0 1 rfl rfl)
theorem dX1_word_4 : decode cX1_word 4 = .ok (.iload_n 1, 1) := dk_27 (dk_at dksX1_word_0 4 rfl rfl)
theorem dX1_word_5 : decode cX1_word 5 = .ok (.invokevirtual 741, 3) := dk_182 2 229 (dk_at dksX1_word_0 5 rfl rfl)
theorem dX1_word_8 : decode cX1_word 8 = .ok (.lreturn, 1) := dk_173 (dk_at dksX1_word_0 8 rfl rfl)
abbrev cX1_count : ByteArray := prog_1_method_80_code
def yX1_count : MethodName := ⟨RX1, "count", "(I)J"⟩
def dkwX1_count_7 : List UInt8 := [182, 0, 166, 133, 173]
abbrev dktX1_count_7 : List UInt8 := dkwX1_count_7 ++ []
def dkwX1_count_6 : List UInt8 := [16, 10, 100, 50, 199, 0, 9, 20, 2, 234, 167, 0, 16, 42, 180, 0, 51, 27, 16, 10, 100, 50]
abbrev dktX1_count_6 : List UInt8 := dkwX1_count_6 ++ dktX1_count_7
def dkwX1_count_5 : List UInt8 := [42, 180, 0, 45, 133, 173, 42, 180, 2, 154, 173, 42, 180, 0, 125, 180, 2, 231, 173, 42, 180, 0, 51, 27]
abbrev dktX1_count_5 : List UInt8 := dkwX1_count_5 ++ dktX1_count_6
def dkwX1_count_4 : List UInt8 := [162, 0, 21, 42, 180, 0, 51, 29, 50, 198, 0, 6, 132, 2, 1, 132, 3, 1, 167, 255, 235, 28, 133, 173]
abbrev dktX1_count_4 : List UInt8 := dkwX1_count_4 ++ dktX1_count_5
def dkwX1_count_3 : List UInt8 := [42, 180, 0, 135, 133, 173, 42, 180, 0, 38, 180, 2, 21, 133, 173, 3, 61, 3, 62, 29, 16, 24]
abbrev dktX1_count_3 : List UInt8 := dkwX1_count_3 ++ dktX1_count_4
def dkwX1_count_2 : List UInt8 := [170, 0, 0, 0, 0, 103, 0, 0, 0, 0, 0, 0, 0, 5, 0, 0, 0, 38, 0, 0, 0, 44, 0, 0, 0, 53, 0, 0, 0, 84, 0, 0, 0, 90, 0, 0, 0, 95]
abbrev dktX1_count_2 : List UInt8 := dkwX1_count_2 ++ dktX1_count_3
def dkwX1_count_1 : List UInt8 := [167, 0, 4, 3, 184, 0, 146, 27]
abbrev dktX1_count_1 : List UInt8 := dkwX1_count_1 ++ dktX1_count_2
def dkwX1_count_0 : List UInt8 := [27, 155, 0, 8, 27, 8, 164, 0, 15, 27, 16, 10, 161, 0, 13, 27, 16, 34, 162, 0, 7, 4]
abbrev dktX1_count_0 : List UInt8 := dkwX1_count_0 ++ dktX1_count_1
theorem dksX1_count_0 : cX1_count.data.toList.drop 0 = dktX1_count_0 := by decide +kernel
theorem dksX1_count_1 : cX1_count.data.toList.drop 22 = dktX1_count_1 := dk_seg dksX1_count_0 22 rfl rfl
theorem dksX1_count_2 : cX1_count.data.toList.drop 30 = dktX1_count_2 := dk_seg dksX1_count_1 8 rfl rfl
theorem dksX1_count_3 : cX1_count.data.toList.drop 68 = dktX1_count_3 := dk_seg dksX1_count_2 38 rfl rfl
theorem dksX1_count_4 : cX1_count.data.toList.drop 90 = dktX1_count_4 := dk_seg dksX1_count_3 22 rfl rfl
theorem dksX1_count_5 : cX1_count.data.toList.drop 114 = dktX1_count_5 := dk_seg dksX1_count_4 24 rfl rfl
theorem dksX1_count_6 : cX1_count.data.toList.drop 138 = dktX1_count_6 := dk_seg dksX1_count_5 24 rfl rfl
theorem dksX1_count_7 : cX1_count.data.toList.drop 160 = dktX1_count_7 := dk_seg dksX1_count_6 22 rfl rfl
theorem dX1_count_0 : decode cX1_count 0 = .ok (.iload_n 1, 1) := dk_27 (dk_at dksX1_count_0 0 rfl rfl)
theorem dX1_count_1 : decode cX1_count 1 = .ok (.ifCond .lt 8, 3) := dk_155 0 8 (dk_at dksX1_count_0 1 rfl rfl)
theorem dX1_count_4 : decode cX1_count 4 = .ok (.iload_n 1, 1) := dk_27 (dk_at dksX1_count_0 4 rfl rfl)
theorem dX1_count_5 : decode cX1_count 5 = .ok (.iconst 5, 1) := dk_8 (dk_at dksX1_count_0 5 rfl rfl)
theorem dX1_count_6 : decode cX1_count 6 = .ok (.if_icmp .le 15, 3) := dk_164 0 15 (dk_at dksX1_count_0 6 rfl rfl)
theorem dX1_count_9 : decode cX1_count 9 = .ok (.iload_n 1, 1) := dk_27 (dk_at dksX1_count_0 9 rfl rfl)
theorem dX1_count_10 : decode cX1_count 10 = .ok (.bipush 10, 2) := dk_16 10 (dk_at dksX1_count_0 10 rfl rfl)
theorem dX1_count_12 : decode cX1_count 12 = .ok (.if_icmp .lt 13, 3) := dk_161 0 13 (dk_at dksX1_count_0 12 rfl rfl)
theorem dX1_count_15 : decode cX1_count 15 = .ok (.iload_n 1, 1) := dk_27 (dk_at dksX1_count_0 15 rfl rfl)
theorem dX1_count_16 : decode cX1_count 16 = .ok (.bipush 34, 2) := dk_16 34 (dk_at dksX1_count_0 16 rfl rfl)
theorem dX1_count_18 : decode cX1_count 18 = .ok (.if_icmp .ge 7, 3) := dk_162 0 7 (dk_at dksX1_count_0 18 rfl rfl)
theorem dX1_count_21 : decode cX1_count 21 = .ok (.iconst 1, 1) := dk_4 (dk_at dksX1_count_0 21 rfl rfl)
theorem dX1_count_22 : decode cX1_count 22 = .ok (.goto 4, 3) := dk_167 0 4 (dk_at dksX1_count_1 0 rfl rfl)
theorem dX1_count_25 : decode cX1_count 25 = .ok (.iconst 0, 1) := dk_3 (dk_at dksX1_count_1 3 rfl rfl)
theorem dX1_count_26 : decode cX1_count 26 = .ok (.invokestatic 146, 3) := dk_184 0 146 (dk_at dksX1_count_1 4 rfl rfl)
theorem dX1_count_29 : decode cX1_count 29 = .ok (.iload_n 1, 1) := dk_27 (dk_at dksX1_count_1 7 rfl rfl)
theorem dX1_count_30 : decode cX1_count 30 = .ok (.tableswitch 103 0 5 #[38, 44, 53, 84, 90, 95], 38) := by decide +kernel
theorem dX1_count_68 : decode cX1_count 68 = .ok (.aload_n 0, 1) := dk_42 (dk_at dksX1_count_3 0 rfl rfl)
theorem dX1_count_69 : decode cX1_count 69 = .ok (.getfield 135, 3) := dk_180 0 135 (dk_at dksX1_count_3 1 rfl rfl)
theorem dX1_count_72 : decode cX1_count 72 = .ok (.i2l, 1) := dk_133 (dk_at dksX1_count_3 4 rfl rfl)
theorem dX1_count_73 : decode cX1_count 73 = .ok (.lreturn, 1) := dk_173 (dk_at dksX1_count_3 5 rfl rfl)
theorem dX1_count_74 : decode cX1_count 74 = .ok (.aload_n 0, 1) := dk_42 (dk_at dksX1_count_3 6 rfl rfl)
theorem dX1_count_75 : decode cX1_count 75 = .ok (.getfield 38, 3) := dk_180 0 38 (dk_at dksX1_count_3 7 rfl rfl)
theorem dX1_count_78 : decode cX1_count 78 = .ok (.getfield 533, 3) := dk_180 2 21 (dk_at dksX1_count_3 10 rfl rfl)
theorem dX1_count_81 : decode cX1_count 81 = .ok (.i2l, 1) := dk_133 (dk_at dksX1_count_3 13 rfl rfl)
theorem dX1_count_82 : decode cX1_count 82 = .ok (.lreturn, 1) := dk_173 (dk_at dksX1_count_3 14 rfl rfl)
theorem dX1_count_83 : decode cX1_count 83 = .ok (.iconst 0, 1) := dk_3 (dk_at dksX1_count_3 15 rfl rfl)
theorem dX1_count_84 : decode cX1_count 84 = .ok (.istore_n 2, 1) := dk_61 (dk_at dksX1_count_3 16 rfl rfl)
theorem dX1_count_85 : decode cX1_count 85 = .ok (.iconst 0, 1) := dk_3 (dk_at dksX1_count_3 17 rfl rfl)
theorem dX1_count_86 : decode cX1_count 86 = .ok (.istore_n 3, 1) := dk_62 (dk_at dksX1_count_3 18 rfl rfl)
theorem dX1_count_87 : decode cX1_count 87 = .ok (.iload_n 3, 1) := dk_29 (dk_at dksX1_count_3 19 rfl rfl)
theorem dX1_count_88 : decode cX1_count 88 = .ok (.bipush 24, 2) := dk_16 24 (dk_at dksX1_count_3 20 rfl rfl)
theorem dX1_count_90 : decode cX1_count 90 = .ok (.if_icmp .ge 21, 3) := dk_162 0 21 (dk_at dksX1_count_4 0 rfl rfl)
theorem dX1_count_93 : decode cX1_count 93 = .ok (.aload_n 0, 1) := dk_42 (dk_at dksX1_count_4 3 rfl rfl)
theorem dX1_count_94 : decode cX1_count 94 = .ok (.getfield 51, 3) := dk_180 0 51 (dk_at dksX1_count_4 4 rfl rfl)
theorem dX1_count_97 : decode cX1_count 97 = .ok (.iload_n 3, 1) := dk_29 (dk_at dksX1_count_4 7 rfl rfl)
theorem dX1_count_98 : decode cX1_count 98 = .ok (.aaload, 1) := dk_50 (dk_at dksX1_count_4 8 rfl rfl)
theorem dX1_count_99 : decode cX1_count 99 = .ok (.ifnull 6, 3) := dk_198 0 6 (dk_at dksX1_count_4 9 rfl rfl)
theorem dX1_count_102 : decode cX1_count 102 = .ok (.iinc 2 1, 3) := dk_132 2 1 (dk_at dksX1_count_4 12 rfl rfl)
theorem dX1_count_105 : decode cX1_count 105 = .ok (.iinc 3 1, 3) := dk_132 3 1 (dk_at dksX1_count_4 15 rfl rfl)
theorem dX1_count_108 : decode cX1_count 108 = .ok (.goto (-21), 3) := dk_167 255 235 (dk_at dksX1_count_4 18 rfl rfl)
theorem dX1_count_111 : decode cX1_count 111 = .ok (.iload_n 2, 1) := dk_28 (dk_at dksX1_count_4 21 rfl rfl)
theorem dX1_count_112 : decode cX1_count 112 = .ok (.i2l, 1) := dk_133 (dk_at dksX1_count_4 22 rfl rfl)
theorem dX1_count_113 : decode cX1_count 113 = .ok (.lreturn, 1) := dk_173 (dk_at dksX1_count_4 23 rfl rfl)
theorem dX1_count_114 : decode cX1_count 114 = .ok (.aload_n 0, 1) := dk_42 (dk_at dksX1_count_5 0 rfl rfl)
theorem dX1_count_115 : decode cX1_count 115 = .ok (.getfield 45, 3) := dk_180 0 45 (dk_at dksX1_count_5 1 rfl rfl)
theorem dX1_count_118 : decode cX1_count 118 = .ok (.i2l, 1) := dk_133 (dk_at dksX1_count_5 4 rfl rfl)
theorem dX1_count_119 : decode cX1_count 119 = .ok (.lreturn, 1) := dk_173 (dk_at dksX1_count_5 5 rfl rfl)
theorem dX1_count_120 : decode cX1_count 120 = .ok (.aload_n 0, 1) := dk_42 (dk_at dksX1_count_5 6 rfl rfl)
theorem dX1_count_121 : decode cX1_count 121 = .ok (.getfield 666, 3) := dk_180 2 154 (dk_at dksX1_count_5 7 rfl rfl)
theorem dX1_count_124 : decode cX1_count 124 = .ok (.lreturn, 1) := dk_173 (dk_at dksX1_count_5 10 rfl rfl)
theorem dX1_count_125 : decode cX1_count 125 = .ok (.aload_n 0, 1) := dk_42 (dk_at dksX1_count_5 11 rfl rfl)
theorem dX1_count_126 : decode cX1_count 126 = .ok (.getfield 125, 3) := dk_180 0 125 (dk_at dksX1_count_5 12 rfl rfl)
theorem dX1_count_129 : decode cX1_count 129 = .ok (.getfield 743, 3) := dk_180 2 231 (dk_at dksX1_count_5 15 rfl rfl)
theorem dX1_count_132 : decode cX1_count 132 = .ok (.lreturn, 1) := dk_173 (dk_at dksX1_count_5 18 rfl rfl)
theorem dX1_count_133 : decode cX1_count 133 = .ok (.aload_n 0, 1) := dk_42 (dk_at dksX1_count_5 19 rfl rfl)
theorem dX1_count_134 : decode cX1_count 134 = .ok (.getfield 51, 3) := dk_180 0 51 (dk_at dksX1_count_5 20 rfl rfl)
theorem dX1_count_137 : decode cX1_count 137 = .ok (.iload_n 1, 1) := dk_27 (dk_at dksX1_count_5 23 rfl rfl)
theorem dX1_count_138 : decode cX1_count 138 = .ok (.bipush 10, 2) := dk_16 10 (dk_at dksX1_count_6 0 rfl rfl)
theorem dX1_count_140 : decode cX1_count 140 = .ok (.isub, 1) := dk_100 (dk_at dksX1_count_6 2 rfl rfl)
theorem dX1_count_141 : decode cX1_count 141 = .ok (.aaload, 1) := dk_50 (dk_at dksX1_count_6 3 rfl rfl)
theorem dX1_count_142 : decode cX1_count 142 = .ok (.ifnonnull 9, 3) := dk_199 0 9 (dk_at dksX1_count_6 4 rfl rfl)
theorem dX1_count_145 : decode cX1_count 145 = .ok (.ldc2_w 746, 3) := dk_20 2 234 (dk_at dksX1_count_6 7 rfl rfl)
theorem dX1_count_148 : decode cX1_count 148 = .ok (.goto 16, 3) := dk_167 0 16 (dk_at dksX1_count_6 10 rfl rfl)
theorem dX1_count_151 : decode cX1_count 151 = .ok (.aload_n 0, 1) := dk_42 (dk_at dksX1_count_6 13 rfl rfl)
theorem dX1_count_152 : decode cX1_count 152 = .ok (.getfield 51, 3) := dk_180 0 51 (dk_at dksX1_count_6 14 rfl rfl)
theorem dX1_count_155 : decode cX1_count 155 = .ok (.iload_n 1, 1) := dk_27 (dk_at dksX1_count_6 17 rfl rfl)
theorem dX1_count_156 : decode cX1_count 156 = .ok (.bipush 10, 2) := dk_16 10 (dk_at dksX1_count_6 18 rfl rfl)
theorem dX1_count_158 : decode cX1_count 158 = .ok (.isub, 1) := dk_100 (dk_at dksX1_count_6 20 rfl rfl)
theorem dX1_count_159 : decode cX1_count 159 = .ok (.aaload, 1) := dk_50 (dk_at dksX1_count_6 21 rfl rfl)
theorem dX1_count_160 : decode cX1_count 160 = .ok (.invokevirtual 166, 3) := dk_182 0 166 (dk_at dksX1_count_7 0 rfl rfl)
theorem dX1_count_163 : decode cX1_count 163 = .ok (.i2l, 1) := dk_133 (dk_at dksX1_count_7 3 rfl rfl)
theorem dX1_count_164 : decode cX1_count 164 = .ok (.lreturn, 1) := dk_173 (dk_at dksX1_count_7 4 rfl rfl)
theorem q508 : (Jvm.Cond.initialized "LibraryDesk") ∈ lw_all := lw_g (lw_at lw_m1 1 rfl) rfl
theorem q571 : (Jvm.Cond.instantiable "LibraryDesk" (21 : Nat)) ∈ lw_all := lw_g (lw_at lw_m1 64 rfl) rfl
theorem q573 : (Jvm.Cond.instanceMethod ({ cls := "LibraryDesk", name := "<init>", desc := "()V" } : Jvm.MethodName)) ∈ lw_all := lw_g (lw_at lw_m1 66 rfl) rfl
theorem q574 : (Jvm.Cond.code ({ cls := "LibraryDesk", name := "<init>", desc := "()V" } : Jvm.MethodName) prog_1_method_11_code (1 : Nat) (Option.none : Option Jvm.ClassFile.FieldType)) ∈ lw_all := lw_g (lw_at lw_m1 67 rfl) rfl
theorem q575 : (Jvm.Cond.methodLink "LibraryDesk" (26 : Nat) ({ cls := "java/lang/Object", name := "<init>", desc := "()V" } : Jvm.MethodName)) ∈ lw_all := lw_g (lw_at lw_m1 68 rfl) rfl
theorem q578 : (Jvm.Cond.classLink "LibraryDesk" (35 : Nat) "LibraryDesk$Out") ∈ lw_all := lw_g (lw_at lw_m1 71 rfl) rfl
theorem q580 : (Jvm.Cond.methodLinkNest "LibraryDesk" (37 : Nat) ({ cls := "LibraryDesk$Out", name := "<init>", desc := "()V" } : Jvm.MethodName) "LibraryDesk") ∈ lw_tbl := lw_at lw_m1 73 rfl
theorem q588 : (Jvm.Cond.fieldLinkNest "LibraryDesk" (533 : Nat) "LibraryDesk$Out" "many" "I" "LibraryDesk") ∈ lw_tbl := lw_at lw_m1 81 rfl
theorem q595 : (Jvm.Cond.classLink "LibraryDesk" (49 : Nat) "LibraryDesk$Thing") ∈ lw_all := lw_g (lw_at lw_m1 88 rfl) rfl
theorem q597 : (Jvm.Cond.classLink "LibraryDesk" (62 : Nat) "LibraryDesk$ListWork") ∈ lw_all := lw_g (lw_at lw_m1 90 rfl) rfl
theorem q599 : (Jvm.Cond.methodLinkNest "LibraryDesk" (64 : Nat) ({ cls := "LibraryDesk$ListWork", name := "<init>", desc := "()V" } : Jvm.MethodName) "LibraryDesk") ∈ lw_tbl := lw_at lw_m1 92 rfl
theorem q611 : (Jvm.Cond.classLink "LibraryDesk" (69 : Nat) "LibraryDesk$PatternReade\x72") ∈ lw_all := lw_g (lw_at lw_m1 104 rfl) rfl
theorem q613 : (Jvm.Cond.methodLinkNest "LibraryDesk" (71 : Nat) ({ cls := "LibraryDesk$PatternReade\x72", name := "<init>", desc := "()V" } : Jvm.MethodName) "LibraryDesk") ∈ lw_tbl := lw_at lw_m1 106 rfl
theorem q664 : (Jvm.Cond.classLink "LibraryDesk" (76 : Nat) "LibraryDesk$Matche\x72") ∈ lw_all := lw_g (lw_at lw_m1 157 rfl) rfl
theorem q666 : (Jvm.Cond.methodLinkNest "LibraryDesk" (78 : Nat) ({ cls := "LibraryDesk$Matche\x72", name := "<init>", desc := "()V" } : Jvm.MethodName) "LibraryDesk") ∈ lw_tbl := lw_at lw_m1 159 rfl
theorem q678 : (Jvm.Cond.fieldLinkNest "LibraryDesk" (510 : Nat) "LibraryDesk$Matche\x72" "kept" "[I" "LibraryDesk") ∈ lw_tbl := lw_at lw_m1 171 rfl
theorem q711 : (Jvm.Cond.classLink "LibraryDesk" (83 : Nat) "LibraryDesk$Forme\x72") ∈ lw_all := lw_g (lw_at lw_m1 204 rfl) rfl
theorem q713 : (Jvm.Cond.methodLinkNest "LibraryDesk" (85 : Nat) ({ cls := "LibraryDesk$Forme\x72", name := "<init>", desc := "()V" } : Jvm.MethodName) "LibraryDesk") ∈ lw_tbl := lw_at lw_m1 206 rfl
theorem q718 : (Jvm.Cond.fieldLinkNest "LibraryDesk" (517 : Nat) "LibraryDesk$Forme\x72" "text" "[B" "LibraryDesk") ∈ lw_tbl := lw_at lw_m1 211 rfl
theorem q720 : (Jvm.Cond.fieldLinkNest "LibraryDesk" (520 : Nat) "LibraryDesk$Forme\x72" "length" "I" "LibraryDesk") ∈ lw_tbl := lw_at lw_m1 213 rfl
theorem q722 : (Jvm.Cond.fieldLinkNest "LibraryDesk" (536 : Nat) "LibraryDesk$Forme\x72" "at" "I" "LibraryDesk") ∈ lw_tbl := lw_at lw_m1 215 rfl
theorem q731 : (Jvm.Cond.fieldLinkNest "LibraryDesk" (545 : Nat) "LibraryDesk$Forme\x72" "lette\x72" "I" "LibraryDesk") ∈ lw_tbl := lw_at lw_m1 224 rfl
theorem q761 : (Jvm.Cond.classLink "LibraryDesk" (90 : Nat) "LibraryDesk$Reckone\x72") ∈ lw_all := lw_g (lw_at lw_m2 14 rfl) rfl
theorem q763 : (Jvm.Cond.methodLinkNest "LibraryDesk" (92 : Nat) ({ cls := "LibraryDesk$Reckone\x72", name := "<init>", desc := "()V" } : Jvm.MethodName) "LibraryDesk") ∈ lw_tbl := lw_at lw_m2 16 rfl
theorem q775 : (Jvm.Cond.fieldLinkNest "LibraryDesk" (585 : Nat) "LibraryDesk$Big" "word" "[I" "LibraryDesk") ∈ lw_tbl := lw_at lw_m2 28 rfl
theorem q778 : (Jvm.Cond.fieldLinkNest "LibraryDesk" (584 : Nat) "LibraryDesk$Big" "size" "I" "LibraryDesk") ∈ lw_tbl := lw_at lw_m2 31 rfl
theorem q783 : (Jvm.Cond.fieldLinkNest "LibraryDesk" (575 : Nat) "LibraryDesk$Big" "less" "Z" "LibraryDesk") ∈ lw_tbl := lw_at lw_m2 36 rfl
theorem q821 : (Jvm.Cond.classLink "LibraryDesk" (97 : Nat) "LibraryDesk$Decimals") ∈ lw_all := lw_g (lw_at lw_m2 74 rfl) rfl
theorem q823 : (Jvm.Cond.methodLinkNest "LibraryDesk" (99 : Nat) ({ cls := "LibraryDesk$Decimals", name := "<init>", desc := "(LLibraryDesk$Reckoner;)V" } : Jvm.MethodName) "LibraryDesk") ∈ lw_tbl := lw_at lw_m2 76 rfl
theorem q851 : (Jvm.Cond.classLink "LibraryDesk" (106 : Nat) "LibraryDesk$Numerals") ∈ lw_all := lw_g (lw_at lw_m2 104 rfl) rfl
theorem q853 : (Jvm.Cond.methodLinkNest "LibraryDesk" (108 : Nat) ({ cls := "LibraryDesk$Numerals", name := "<init>", desc := "()V" } : Jvm.MethodName) "LibraryDesk") ∈ lw_tbl := lw_at lw_m2 106 rfl
theorem q861 : (Jvm.Cond.fieldLinkNest "LibraryDesk" (617 : Nat) "LibraryDesk$Numerals" "made" "LLibraryDesk$Big;" "LibraryDesk") ∈ lw_tbl := lw_at lw_m2 114 rfl
theorem q863 : (Jvm.Cond.fieldLinkNest "LibraryDesk" (625 : Nat) "LibraryDesk$Numerals" "scale" "I" "LibraryDesk") ∈ lw_tbl := lw_at lw_m2 116 rfl
theorem q871 : (Jvm.Cond.classLink "LibraryDesk" (113 : Nat) "LibraryDesk$Streame\x72") ∈ lw_all := lw_g (lw_at lw_m2 124 rfl) rfl
theorem q873 : (Jvm.Cond.methodLinkNest "LibraryDesk" (115 : Nat) ({ cls := "LibraryDesk$Streame\x72", name := "<init>", desc := "()V" } : Jvm.MethodName) "LibraryDesk") ∈ lw_tbl := lw_at lw_m2 126 rfl
theorem q902 : (Jvm.Cond.fieldLinkNest "LibraryDesk" (644 : Nat) "LibraryDesk$Streame\x72" "source" "I" "LibraryDesk") ∈ lw_tbl := lw_at lw_m2 155 rfl
theorem q904 : (Jvm.Cond.fieldLinkNest "LibraryDesk" (647 : Nat) "LibraryDesk$Streame\x72" "sourceA" "I" "LibraryDesk") ∈ lw_tbl := lw_at lw_m2 157 rfl
theorem q913 : (Jvm.Cond.fieldLinkNest "LibraryDesk" (650 : Nat) "LibraryDesk$Streame\x72" "end" "I" "LibraryDesk") ∈ lw_tbl := lw_at lw_m2 166 rfl
theorem q916 : (Jvm.Cond.fieldLinkNest "LibraryDesk" (682 : Nat) "LibraryDesk$Streame\x72" "endNumbe\x72" "I" "LibraryDesk") ∈ lw_tbl := lw_at lw_m2 169 rfl
theorem q920 : (Jvm.Cond.fieldLinkNest "LibraryDesk" (663 : Nat) "LibraryDesk$Streame\x72" "called" "I" "LibraryDesk") ∈ lw_tbl := lw_at lw_m2 173 rfl
theorem q922 : (Jvm.Cond.fieldLinkNest "LibraryDesk" (636 : Nat) "LibraryDesk$Streame\x72" "list" "LLibraryDesk$Places;" "LibraryDesk") ∈ lw_tbl := lw_at lw_m2 175 rfl
theorem q924 : (Jvm.Cond.fieldLinkNest "LibraryDesk" (640 : Nat) "LibraryDesk$Streame\x72" "map" "LLibraryDesk$Maps;" "LibraryDesk") ∈ lw_tbl := lw_at lw_m2 177 rfl
theorem q929 : (Jvm.Cond.fieldLinkNest "LibraryDesk" (679 : Nat) "LibraryDesk$Streame\x72" "element" "I" "LibraryDesk") ∈ lw_tbl := lw_at lw_m2 182 rfl
theorem q993 : (Jvm.Cond.classLink "LibraryDesk" (120 : Nat) "LibraryDesk$Threads") ∈ lw_all := lw_g (lw_at lw_m3 6 rfl) rfl
theorem q995 : (Jvm.Cond.methodLinkNest "LibraryDesk" (122 : Nat) ({ cls := "LibraryDesk$Threads", name := "<init>", desc := "([LLibraryDesk$Thing;)V" } : Jvm.MethodName) "LibraryDesk") ∈ lw_tbl := lw_at lw_m3 8 rfl
theorem q1022 : (Jvm.Cond.fieldLinkNest "LibraryDesk" (743 : Nat) "LibraryDesk$Threads" "clock" "J" "LibraryDesk") ∈ lw_tbl := lw_at lw_m3 35 rfl
theorem q1066 : (Jvm.Cond.fieldLink "LibraryDesk" (31 : Nat) "LibraryDesk" "tape" "[B") ∈ lw_all := lw_g (lw_at lw_m3 79 rfl) rfl
theorem q1067 : (Jvm.Cond.fieldLink "LibraryDesk" (135 : Nat) "LibraryDesk" "taped" "I") ∈ lw_all := lw_g (lw_at lw_m3 80 rfl) rfl
theorem q1068 : (Jvm.Cond.fieldLink "LibraryDesk" (38 : Nat) "LibraryDesk" "out" "LLibraryDesk$Out;") ∈ lw_all := lw_g (lw_at lw_m3 81 rfl) rfl
theorem q1069 : (Jvm.Cond.fieldLink "LibraryDesk" (42 : Nat) "LibraryDesk" "spare" "LLibraryDesk$Out;") ∈ lw_all := lw_g (lw_at lw_m3 82 rfl) rfl
theorem q1070 : (Jvm.Cond.fieldLink "LibraryDesk" (45 : Nat) "LibraryDesk" "place" "I") ∈ lw_all := lw_g (lw_at lw_m3 83 rfl) rfl
theorem q1071 : (Jvm.Cond.fieldLink "LibraryDesk" (666 : Nat) "LibraryDesk" "called" "J") ∈ lw_all := lw_g (lw_at lw_m3 84 rfl) rfl
theorem q1072 : (Jvm.Cond.fieldLink "LibraryDesk" (51 : Nat) "LibraryDesk" "things" "[LLibraryDesk$Thing;") ∈ lw_all := lw_g (lw_at lw_m3 85 rfl) rfl
theorem q1073 : (Jvm.Cond.fieldLink "LibraryDesk" (55 : Nat) "LibraryDesk" "partOf" "[I") ∈ lw_all := lw_g (lw_at lw_m3 86 rfl) rfl
theorem q1074 : (Jvm.Cond.fieldLink "LibraryDesk" (59 : Nat) "LibraryDesk" "all" "[LLibraryDesk$Thing;") ∈ lw_all := lw_g (lw_at lw_m3 87 rfl) rfl
theorem q1075 : (Jvm.Cond.fieldLink "LibraryDesk" (223 : Nat) "LibraryDesk" "allMany" "I") ∈ lw_all := lw_g (lw_at lw_m3 88 rfl) rfl
theorem q1076 : (Jvm.Cond.fieldLink "LibraryDesk" (65 : Nat) "LibraryDesk" "lists" "LLibraryDesk$ListWork;") ∈ lw_all := lw_g (lw_at lw_m3 89 rfl) rfl
theorem q1077 : (Jvm.Cond.fieldLink "LibraryDesk" (72 : Nat) "LibraryDesk" "patterns" "LLibraryDesk$PatternReader;") ∈ lw_all := lw_g (lw_at lw_m3 90 rfl) rfl
theorem q1078 : (Jvm.Cond.fieldLink "LibraryDesk" (79 : Nat) "LibraryDesk" "matche\x72" "LLibraryDesk$Matcher;") ∈ lw_all := lw_g (lw_at lw_m3 91 rfl) rfl
theorem q1079 : (Jvm.Cond.fieldLink "LibraryDesk" (86 : Nat) "LibraryDesk" "forme\x72" "LLibraryDesk$Former;") ∈ lw_all := lw_g (lw_at lw_m3 92 rfl) rfl
theorem q1080 : (Jvm.Cond.fieldLink "LibraryDesk" (93 : Nat) "LibraryDesk" "reckone\x72" "LLibraryDesk$Reckoner;") ∈ lw_all := lw_g (lw_at lw_m3 93 rfl) rfl
theorem q1081 : (Jvm.Cond.fieldLink "LibraryDesk" (102 : Nat) "LibraryDesk" "decimals" "LLibraryDesk$Decimals;") ∈ lw_all := lw_g (lw_at lw_m3 94 rfl) rfl
theorem q1082 : (Jvm.Cond.fieldLink "LibraryDesk" (109 : Nat) "LibraryDesk" "numerals" "LLibraryDesk$Numerals;") ∈ lw_all := lw_g (lw_at lw_m3 95 rfl) rfl
theorem q1083 : (Jvm.Cond.fieldLink "LibraryDesk" (116 : Nat) "LibraryDesk" "streams" "LLibraryDesk$Streamer;") ∈ lw_all := lw_g (lw_at lw_m3 96 rfl) rfl
theorem q1084 : (Jvm.Cond.fieldLink "LibraryDesk" (125 : Nat) "LibraryDesk" "threads" "LLibraryDesk$Threads;") ∈ lw_all := lw_g (lw_at lw_m3 97 rfl) rfl
theorem q1085 : (Jvm.Cond.fieldLink "LibraryDesk" (129 : Nat) "LibraryDesk" "keys" "[I") ∈ lw_all := lw_g (lw_at lw_m3 98 rfl) rfl
theorem q1086 : (Jvm.Cond.fieldLink "LibraryDesk" (132 : Nat) "LibraryDesk" "values" "[I") ∈ lw_all := lw_g (lw_at lw_m3 99 rfl) rfl
theorem q1087 : (Jvm.Cond.laysFinal "LibraryDesk" "LibraryDesk" "tape" "[B") ∈ lw_all := lw_g (lw_at lw_m3 100 rfl) rfl
theorem q1088 : (Jvm.Cond.soleField "LibraryDesk" "tape") ∈ lw_all := lw_g (lw_at lw_m3 101 rfl) rfl
theorem q1089 : (Jvm.Cond.lays "LibraryDesk" "LibraryDesk" "taped" "I") ∈ lw_all := lw_g (lw_at lw_m3 102 rfl) rfl
theorem q1090 : (Jvm.Cond.soleField "LibraryDesk" "taped") ∈ lw_all := lw_g (lw_at lw_m3 103 rfl) rfl
theorem q1091 : (Jvm.Cond.laysFinal "LibraryDesk" "LibraryDesk" "out" "LLibraryDesk$Out;") ∈ lw_all := lw_g (lw_at lw_m3 104 rfl) rfl
theorem q1092 : (Jvm.Cond.soleField "LibraryDesk" "out") ∈ lw_all := lw_g (lw_at lw_m3 105 rfl) rfl
theorem q1093 : (Jvm.Cond.laysFinal "LibraryDesk" "LibraryDesk" "spare" "LLibraryDesk$Out;") ∈ lw_all := lw_g (lw_at lw_m3 106 rfl) rfl
theorem q1094 : (Jvm.Cond.soleField "LibraryDesk" "spare") ∈ lw_all := lw_g (lw_at lw_m3 107 rfl) rfl
theorem q1095 : (Jvm.Cond.lays "LibraryDesk" "LibraryDesk" "place" "I") ∈ lw_all := lw_g (lw_at lw_m3 108 rfl) rfl
theorem q1096 : (Jvm.Cond.soleField "LibraryDesk" "place") ∈ lw_all := lw_g (lw_at lw_m3 109 rfl) rfl
theorem q1097 : (Jvm.Cond.lays "LibraryDesk" "LibraryDesk" "called" "J") ∈ lw_all := lw_g (lw_at lw_m3 110 rfl) rfl
theorem q1098 : (Jvm.Cond.soleField "LibraryDesk" "called") ∈ lw_all := lw_g (lw_at lw_m3 111 rfl) rfl
theorem q1099 : (Jvm.Cond.laysFinal "LibraryDesk" "LibraryDesk" "things" "[LLibraryDesk$Thing;") ∈ lw_all := lw_g (lw_at lw_m3 112 rfl) rfl
theorem q1100 : (Jvm.Cond.soleField "LibraryDesk" "things") ∈ lw_all := lw_g (lw_at lw_m3 113 rfl) rfl
theorem q1101 : (Jvm.Cond.laysFinal "LibraryDesk" "LibraryDesk" "partOf" "[I") ∈ lw_all := lw_g (lw_at lw_m3 114 rfl) rfl
theorem q1102 : (Jvm.Cond.soleField "LibraryDesk" "partOf") ∈ lw_all := lw_g (lw_at lw_m3 115 rfl) rfl
theorem q1103 : (Jvm.Cond.laysFinal "LibraryDesk" "LibraryDesk" "all" "[LLibraryDesk$Thing;") ∈ lw_all := lw_g (lw_at lw_m3 116 rfl) rfl
theorem q1104 : (Jvm.Cond.soleField "LibraryDesk" "all") ∈ lw_all := lw_g (lw_at lw_m3 117 rfl) rfl
theorem q1105 : (Jvm.Cond.lays "LibraryDesk" "LibraryDesk" "allMany" "I") ∈ lw_all := lw_g (lw_at lw_m3 118 rfl) rfl
theorem q1106 : (Jvm.Cond.soleField "LibraryDesk" "allMany") ∈ lw_all := lw_g (lw_at lw_m3 119 rfl) rfl
theorem q1107 : (Jvm.Cond.laysFinal "LibraryDesk" "LibraryDesk" "lists" "LLibraryDesk$ListWork;") ∈ lw_all := lw_g (lw_at lw_m3 120 rfl) rfl
theorem q1108 : (Jvm.Cond.soleField "LibraryDesk" "lists") ∈ lw_all := lw_g (lw_at lw_m3 121 rfl) rfl
theorem q1109 : (Jvm.Cond.laysFinal "LibraryDesk" "LibraryDesk" "patterns" "LLibraryDesk$PatternReader;") ∈ lw_all := lw_g (lw_at lw_m3 122 rfl) rfl
theorem q1110 : (Jvm.Cond.soleField "LibraryDesk" "patterns") ∈ lw_all := lw_g (lw_at lw_m3 123 rfl) rfl
theorem q1111 : (Jvm.Cond.laysFinal "LibraryDesk" "LibraryDesk" "matche\x72" "LLibraryDesk$Matcher;") ∈ lw_all := lw_g (lw_at lw_m3 124 rfl) rfl
theorem q1112 : (Jvm.Cond.soleField "LibraryDesk" "matche\x72") ∈ lw_all := lw_g (lw_at lw_m3 125 rfl) rfl
theorem q1113 : (Jvm.Cond.laysFinal "LibraryDesk" "LibraryDesk" "forme\x72" "LLibraryDesk$Former;") ∈ lw_all := lw_g (lw_at lw_m3 126 rfl) rfl
theorem q1114 : (Jvm.Cond.soleField "LibraryDesk" "forme\x72") ∈ lw_all := lw_g (lw_at lw_m3 127 rfl) rfl
theorem q1115 : (Jvm.Cond.laysFinal "LibraryDesk" "LibraryDesk" "reckone\x72" "LLibraryDesk$Reckoner;") ∈ lw_all := lw_g (lw_at lw_m3 128 rfl) rfl
theorem q1116 : (Jvm.Cond.soleField "LibraryDesk" "reckone\x72") ∈ lw_all := lw_g (lw_at lw_m3 129 rfl) rfl
theorem q1117 : (Jvm.Cond.laysFinal "LibraryDesk" "LibraryDesk" "decimals" "LLibraryDesk$Decimals;") ∈ lw_all := lw_g (lw_at lw_m3 130 rfl) rfl
theorem q1118 : (Jvm.Cond.soleField "LibraryDesk" "decimals") ∈ lw_all := lw_g (lw_at lw_m3 131 rfl) rfl
theorem q1119 : (Jvm.Cond.laysFinal "LibraryDesk" "LibraryDesk" "numerals" "LLibraryDesk$Numerals;") ∈ lw_all := lw_g (lw_at lw_m3 132 rfl) rfl
theorem q1120 : (Jvm.Cond.soleField "LibraryDesk" "numerals") ∈ lw_all := lw_g (lw_at lw_m3 133 rfl) rfl
theorem q1121 : (Jvm.Cond.laysFinal "LibraryDesk" "LibraryDesk" "streams" "LLibraryDesk$Streamer;") ∈ lw_all := lw_g (lw_at lw_m3 134 rfl) rfl
theorem q1122 : (Jvm.Cond.soleField "LibraryDesk" "streams") ∈ lw_all := lw_g (lw_at lw_m3 135 rfl) rfl
theorem q1123 : (Jvm.Cond.laysFinal "LibraryDesk" "LibraryDesk" "threads" "LLibraryDesk$Threads;") ∈ lw_all := lw_g (lw_at lw_m3 136 rfl) rfl
theorem q1124 : (Jvm.Cond.soleField "LibraryDesk" "threads") ∈ lw_all := lw_g (lw_at lw_m3 137 rfl) rfl
theorem q1125 : (Jvm.Cond.laysFinal "LibraryDesk" "LibraryDesk" "keys" "[I") ∈ lw_all := lw_g (lw_at lw_m3 138 rfl) rfl
theorem q1126 : (Jvm.Cond.soleField "LibraryDesk" "keys") ∈ lw_all := lw_g (lw_at lw_m3 139 rfl) rfl
theorem q1127 : (Jvm.Cond.laysFinal "LibraryDesk" "LibraryDesk" "values" "[I") ∈ lw_all := lw_g (lw_at lw_m3 140 rfl) rfl
theorem q1128 : (Jvm.Cond.soleField "LibraryDesk" "values") ∈ lw_all := lw_g (lw_at lw_m3 141 rfl) rfl
theorem q1129 : (Jvm.Cond.superclass "LibraryDesk" "java/lang/Object") ∈ lw_all := lw_g (lw_at lw_m3 142 rfl) rfl
theorem q1131 : (Jvm.Cond.instanceMethod ({ cls := "LibraryDesk", name := "dead", desc := "()I" } : Jvm.MethodName)) ∈ lw_all := lw_g (lw_at lw_m3 144 rfl) rfl
theorem q1132 : (Jvm.Cond.selects "LibraryDesk" ({ cls := "LibraryDesk", name := "dead", desc := "()I" } : Jvm.MethodName) ({ cls := "LibraryDesk", name := "dead", desc := "()I" } : Jvm.MethodName)) ∈ lw_all := lw_g (lw_at lw_m3 145 rfl) rfl
theorem q1133 : (Jvm.Cond.code ({ cls := "LibraryDesk", name := "dead", desc := "()I" } : Jvm.MethodName) prog_1_method_73_code (1 : Nat) (Option.some Jvm.ClassFile.FieldType.int)) ∈ lw_all := lw_g (lw_at lw_m3 146 rfl) rfl
theorem q1134 : (Jvm.Cond.methodLinkNest "LibraryDesk" (713 : Nat) ({ cls := "LibraryDesk$Threads", name := "dead", desc := "()I" } : Jvm.MethodName) "LibraryDesk") ∈ lw_tbl := lw_at lw_m3 147 rfl
theorem q1242 : (Jvm.Cond.instanceMethod ({ cls := "LibraryDesk", name := "feed", desc := "(IIIII)I" } : Jvm.MethodName)) ∈ lw_all := lw_g (lw_at lw_m4 15 rfl) rfl
theorem q1243 : (Jvm.Cond.selects "LibraryDesk" ({ cls := "LibraryDesk", name := "feed", desc := "(IIIII)I" } : Jvm.MethodName) ({ cls := "LibraryDesk", name := "feed", desc := "(IIIII)I" } : Jvm.MethodName)) ∈ lw_all := lw_g (lw_at lw_m4 16 rfl) rfl
theorem q1244 : (Jvm.Cond.code ({ cls := "LibraryDesk", name := "feed", desc := "(IIIII)I" } : Jvm.MethodName) prog_1_method_12_code (6 : Nat) (Option.some Jvm.ClassFile.FieldType.int)) ∈ lw_all := lw_g (lw_at lw_m4 17 rfl) rfl
theorem q1245 : (Jvm.Cond.methodLink "LibraryDesk" (138 : Nat) ({ cls := "LibraryDesk", name := "within", desc := "(Z)V" } : Jvm.MethodName)) ∈ lw_all := lw_g (lw_at lw_m4 18 rfl) rfl
theorem q1246 : (Jvm.Cond.static ({ cls := "LibraryDesk", name := "within", desc := "(Z)V" } : Jvm.MethodName)) ∈ lw_all := lw_g (lw_at lw_m4 19 rfl) rfl
theorem q1247 : (Jvm.Cond.code ({ cls := "LibraryDesk", name := "within", desc := "(Z)V" } : Jvm.MethodName) prog_1_method_6_code (1 : Nat) (Option.none : Option Jvm.ClassFile.FieldType)) ∈ lw_all := lw_g (lw_at lw_m4 20 rfl) rfl
theorem q1248 : (Jvm.Cond.classLink "LibraryDesk" (19 : Nat) "java/lang/IndexOutOfBoundsException") ∈ lw_all := lw_g (lw_at lw_m4 21 rfl) rfl
theorem q1257 : (Jvm.Cond.methodLink "LibraryDesk" (21 : Nat) ({ cls := "java/lang/IndexOutOfBoundsException", name := "<init>", desc := "()V" } : Jvm.MethodName)) ∈ lw_all := lw_g (lw_at lw_m4 30 rfl) rfl
theorem q1269 : (Jvm.Cond.methodLink "LibraryDesk" (142 : Nat) ({ cls := "LibraryDesk", name := "fou\x72", desc := "(I)V" } : Jvm.MethodName)) ∈ lw_all := lw_g (lw_at lw_m4 42 rfl) rfl
theorem q1270 : (Jvm.Cond.privateMethod ({ cls := "LibraryDesk", name := "fou\x72", desc := "(I)V" } : Jvm.MethodName)) ∈ lw_tbl := lw_at lw_m4 43 rfl
theorem q1271 : (Jvm.Cond.instanceMethod ({ cls := "LibraryDesk", name := "fou\x72", desc := "(I)V" } : Jvm.MethodName)) ∈ lw_all := lw_g (lw_at lw_m4 44 rfl) rfl
theorem q1272 : (Jvm.Cond.code ({ cls := "LibraryDesk", name := "fou\x72", desc := "(I)V" } : Jvm.MethodName) prog_1_method_13_code (3 : Nat) (Option.none : Option Jvm.ClassFile.FieldType)) ∈ lw_all := lw_g (lw_at lw_m4 45 rfl) rfl
theorem q1278 : (Jvm.Cond.instanceMethod ({ cls := "LibraryDesk", name := "end", desc := "(I)I" } : Jvm.MethodName)) ∈ lw_all := lw_g (lw_at lw_m4 51 rfl) rfl
theorem q1279 : (Jvm.Cond.selects "LibraryDesk" ({ cls := "LibraryDesk", name := "end", desc := "(I)I" } : Jvm.MethodName) ({ cls := "LibraryDesk", name := "end", desc := "(I)I" } : Jvm.MethodName)) ∈ lw_all := lw_g (lw_at lw_m4 52 rfl) rfl
theorem q1280 : (Jvm.Cond.code ({ cls := "LibraryDesk", name := "end", desc := "(I)I" } : Jvm.MethodName) prog_1_method_14_code (2 : Nat) (Option.some Jvm.ClassFile.FieldType.int)) ∈ lw_all := lw_g (lw_at lw_m4 53 rfl) rfl
theorem q1281 : (Jvm.Cond.methodLink "LibraryDesk" (146 : Nat) ({ cls := "LibraryDesk", name := "good", desc := "(Z)V" } : Jvm.MethodName)) ∈ lw_all := lw_g (lw_at lw_m4 54 rfl) rfl
theorem q1282 : (Jvm.Cond.static ({ cls := "LibraryDesk", name := "good", desc := "(Z)V" } : Jvm.MethodName)) ∈ lw_all := lw_g (lw_at lw_m4 55 rfl) rfl
theorem q1283 : (Jvm.Cond.code ({ cls := "LibraryDesk", name := "good", desc := "(Z)V" } : Jvm.MethodName) prog_1_method_1_code (1 : Nat) (Option.none : Option Jvm.ClassFile.FieldType)) ∈ lw_all := lw_g (lw_at lw_m4 56 rfl) rfl
theorem q1284 : (Jvm.Cond.classLink "LibraryDesk" (1 : Nat) "java/lang/IllegalArgumentException") ∈ lw_all := lw_g (lw_at lw_m4 57 rfl) rfl
theorem q1293 : (Jvm.Cond.methodLink "LibraryDesk" (3 : Nat) ({ cls := "java/lang/IllegalArgumentException", name := "<init>", desc := "()V" } : Jvm.MethodName)) ∈ lw_all := lw_g (lw_at lw_m4 66 rfl) rfl
theorem q1318 : (Jvm.Cond.instanceMethod ({ cls := "LibraryDesk", name := "make", desc := "(III)I" } : Jvm.MethodName)) ∈ lw_all := lw_g (lw_at lw_m4 91 rfl) rfl
theorem q1319 : (Jvm.Cond.selects "LibraryDesk" ({ cls := "LibraryDesk", name := "make", desc := "(III)I" } : Jvm.MethodName) ({ cls := "LibraryDesk", name := "make", desc := "(III)I" } : Jvm.MethodName)) ∈ lw_all := lw_g (lw_at lw_m4 92 rfl) rfl
theorem q1320 : (Jvm.Cond.code ({ cls := "LibraryDesk", name := "make", desc := "(III)I" } : Jvm.MethodName) prog_1_method_30_code (6 : Nat) (Option.some Jvm.ClassFile.FieldType.int)) ∈ lw_all := lw_g (lw_at lw_m4 93 rfl) rfl
theorem q1321 : (Jvm.Cond.methodLink "LibraryDesk" (271 : Nat) ({ cls := "LibraryDesk", name := "isNegative", desc := "(II)Z" } : Jvm.MethodName)) ∈ lw_all := lw_g (lw_at lw_m4 94 rfl) rfl
theorem q1322 : (Jvm.Cond.static ({ cls := "LibraryDesk", name := "isNegative", desc := "(II)Z" } : Jvm.MethodName)) ∈ lw_all := lw_g (lw_at lw_m4 95 rfl) rfl
theorem q1323 : (Jvm.Cond.code ({ cls := "LibraryDesk", name := "isNegative", desc := "(II)Z" } : Jvm.MethodName) prog_1_method_27_code (2 : Nat) (Option.some Jvm.ClassFile.FieldType.boolean)) ∈ lw_all := lw_g (lw_at lw_m4 96 rfl) rfl
theorem q1324 : (Jvm.Cond.classLink "LibraryDesk" (275 : Nat) "java/lang/NegativeArraySizeException") ∈ lw_all := lw_g (lw_at lw_m4 97 rfl) rfl
theorem q1325 : (Jvm.Cond.methodLink "LibraryDesk" (277 : Nat) ({ cls := "java/lang/NegativeArraySizeException", name := "<init>", desc := "()V" } : Jvm.MethodName)) ∈ lw_all := lw_g (lw_at lw_m4 98 rfl) rfl
theorem q1329 : (Jvm.Cond.methodLink "LibraryDesk" (278 : Nat) ({ cls := "LibraryDesk", name := "isFit", desc := "(III)Z" } : Jvm.MethodName)) ∈ lw_all := lw_g (lw_at lw_m4 102 rfl) rfl
theorem q1330 : (Jvm.Cond.static ({ cls := "LibraryDesk", name := "isFit", desc := "(III)Z" } : Jvm.MethodName)) ∈ lw_all := lw_g (lw_at lw_m4 103 rfl) rfl
theorem q1331 : (Jvm.Cond.code ({ cls := "LibraryDesk", name := "isFit", desc := "(III)Z" } : Jvm.MethodName) prog_1_method_28_code (3 : Nat) (Option.some Jvm.ClassFile.FieldType.boolean)) ∈ lw_all := lw_g (lw_at lw_m4 104 rfl) rfl
theorem q1332 : (Jvm.Cond.methodLink "LibraryDesk" (233 : Nat) ({ cls := "LibraryDesk", name := "free", desc := "()I" } : Jvm.MethodName)) ∈ lw_all := lw_g (lw_at lw_m4 105 rfl) rfl
theorem q1333 : (Jvm.Cond.privateMethod ({ cls := "LibraryDesk", name := "free", desc := "()I" } : Jvm.MethodName)) ∈ lw_tbl := lw_at lw_m4 106 rfl
theorem q1334 : (Jvm.Cond.instanceMethod ({ cls := "LibraryDesk", name := "free", desc := "()I" } : Jvm.MethodName)) ∈ lw_all := lw_g (lw_at lw_m4 107 rfl) rfl
theorem q1335 : (Jvm.Cond.code ({ cls := "LibraryDesk", name := "free", desc := "()I" } : Jvm.MethodName) prog_1_method_23_code (2 : Nat) (Option.some Jvm.ClassFile.FieldType.int)) ∈ lw_all := lw_g (lw_at lw_m4 108 rfl) rfl
theorem q1336 : (Jvm.Cond.methodLink "LibraryDesk" (176 : Nat) ({ cls := "LibraryDesk", name := "state", desc := "(Z)V" } : Jvm.MethodName)) ∈ lw_all := lw_g (lw_at lw_m4 109 rfl) rfl
theorem q1337 : (Jvm.Cond.static ({ cls := "LibraryDesk", name := "state", desc := "(Z)V" } : Jvm.MethodName)) ∈ lw_all := lw_g (lw_at lw_m4 110 rfl) rfl
theorem q1338 : (Jvm.Cond.code ({ cls := "LibraryDesk", name := "state", desc := "(Z)V" } : Jvm.MethodName) prog_1_method_4_code (1 : Nat) (Option.none : Option Jvm.ClassFile.FieldType)) ∈ lw_all := lw_g (lw_at lw_m4 111 rfl) rfl
theorem q1339 : (Jvm.Cond.classLink "LibraryDesk" (13 : Nat) "java/lang/IllegalStateException") ∈ lw_all := lw_g (lw_at lw_m4 112 rfl) rfl
theorem q1348 : (Jvm.Cond.methodLink "LibraryDesk" (15 : Nat) ({ cls := "java/lang/IllegalStateException", name := "<init>", desc := "()V" } : Jvm.MethodName)) ∈ lw_all := lw_g (lw_at lw_m4 121 rfl) rfl
theorem q1354 : (Jvm.Cond.methodLink "LibraryDesk" (282 : Nat) ({ cls := "LibraryDesk", name := "fresh", desc := "(I)LLibraryDesk$Thing;" } : Jvm.MethodName)) ∈ lw_all := lw_g (lw_at lw_m4 127 rfl) rfl
theorem q1355 : (Jvm.Cond.privateMethod ({ cls := "LibraryDesk", name := "fresh", desc := "(I)LLibraryDesk$Thing;" } : Jvm.MethodName)) ∈ lw_tbl := lw_at lw_m4 128 rfl
theorem q1356 : (Jvm.Cond.instanceMethod ({ cls := "LibraryDesk", name := "fresh", desc := "(I)LLibraryDesk$Thing;" } : Jvm.MethodName)) ∈ lw_all := lw_g (lw_at lw_m4 129 rfl) rfl
theorem q1357 : (Jvm.Cond.code ({ cls := "LibraryDesk", name := "fresh", desc := "(I)LLibraryDesk$Thing;" } : Jvm.MethodName) prog_1_method_25_code (3 : Nat) (Option.some (Jvm.ClassFile.FieldType.object "LibraryDesk$Thing"))) ∈ lw_all := lw_g (lw_at lw_m4 130 rfl) rfl
theorem q1358 : (Jvm.Cond.methodLink "LibraryDesk" (166 : Nat) ({ cls := "LibraryDesk$Thing", name := "kind", desc := "()I" } : Jvm.MethodName)) ∈ lw_all := lw_g (lw_at lw_m4 131 rfl) rfl
theorem q1359 : (Jvm.Cond.methodLink "LibraryDesk" (230 : Nat) ({ cls := "LibraryDesk", name := "create", desc := "(I)LLibraryDesk$Thing;" } : Jvm.MethodName)) ∈ lw_all := lw_g (lw_at lw_m4 132 rfl) rfl
theorem q1360 : (Jvm.Cond.privateMethod ({ cls := "LibraryDesk", name := "create", desc := "(I)LLibraryDesk$Thing;" } : Jvm.MethodName)) ∈ lw_tbl := lw_at lw_m4 133 rfl
theorem q1361 : (Jvm.Cond.instanceMethod ({ cls := "LibraryDesk", name := "create", desc := "(I)LLibraryDesk$Thing;" } : Jvm.MethodName)) ∈ lw_all := lw_g (lw_at lw_m4 134 rfl) rfl
theorem q1362 : (Jvm.Cond.code ({ cls := "LibraryDesk", name := "create", desc := "(I)LLibraryDesk$Thing;" } : Jvm.MethodName) prog_1_method_24_code (2 : Nat) (Option.some (Jvm.ClassFile.FieldType.object "LibraryDesk$Thing"))) ∈ lw_all := lw_g (lw_at lw_m4 135 rfl) rfl
theorem q1363 : (Jvm.Cond.classLink "LibraryDesk" (179 : Nat) "LibraryDesk$ListThing") ∈ lw_all := lw_g (lw_at lw_m4 136 rfl) rfl
theorem q1365 : (Jvm.Cond.methodLinkNest "LibraryDesk" (181 : Nat) ({ cls := "LibraryDesk$ListThing", name := "<init>", desc := "()V" } : Jvm.MethodName) "LibraryDesk") ∈ lw_tbl := lw_at lw_m4 138 rfl
theorem q1401 : (Jvm.Cond.fieldLinkNest "LibraryDesk" (236 : Nat) "LibraryDesk$ListThing" "rows" "LLibraryDesk$Rows;" "LibraryDesk") ∈ lw_tbl := lw_at lw_m4 174 rfl
theorem q1403 : (Jvm.Cond.fieldLinkNest "LibraryDesk" (226 : Nat) "LibraryDesk$Thing" "used" "Z" "LibraryDesk") ∈ lw_tbl := lw_at lw_m4 176 rfl
theorem q1411 : (Jvm.Cond.classLink "LibraryDesk" (182 : Nat) "LibraryDesk$RingThing") ∈ lw_all := lw_g (lw_at lw_m4 184 rfl) rfl
theorem q1413 : (Jvm.Cond.methodLinkNest "LibraryDesk" (184 : Nat) ({ cls := "LibraryDesk$RingThing", name := "<init>", desc := "()V" } : Jvm.MethodName) "LibraryDesk") ∈ lw_tbl := lw_at lw_m4 186 rfl
theorem q1432 : (Jvm.Cond.classLink "LibraryDesk" (185 : Nat) "LibraryDesk$HashThing") ∈ lw_all := lw_g (lw_at lw_m4 205 rfl) rfl
theorem q1434 : (Jvm.Cond.methodLinkNest "LibraryDesk" (187 : Nat) ({ cls := "LibraryDesk$HashThing", name := "<init>", desc := "()V" } : Jvm.MethodName) "LibraryDesk") ∈ lw_tbl := lw_at lw_m4 207 rfl
theorem q1483 : (Jvm.Cond.fieldLinkNest "LibraryDesk" (392 : Nat) "LibraryDesk$HashThing" "table" "I" "LibraryDesk") ∈ lw_tbl := lw_at lw_m5 16 rfl
theorem q1508 : (Jvm.Cond.classLink "LibraryDesk" (188 : Nat) "LibraryDesk$LinkedThing") ∈ lw_all := lw_g (lw_at lw_m5 41 rfl) rfl
theorem q1510 : (Jvm.Cond.methodLinkNest "LibraryDesk" (190 : Nat) ({ cls := "LibraryDesk$LinkedThing", name := "<init>", desc := "()V" } : Jvm.MethodName) "LibraryDesk") ∈ lw_tbl := lw_at lw_m5 43 rfl
theorem q1523 : (Jvm.Cond.fieldLinkNest "LibraryDesk" (426 : Nat) "LibraryDesk$LinkedThing" "limit" "I" "LibraryDesk") ∈ lw_tbl := lw_at lw_m5 56 rfl
theorem q1547 : (Jvm.Cond.classLink "LibraryDesk" (191 : Nat) "LibraryDesk$TreeThing") ∈ lw_all := lw_g (lw_at lw_m5 80 rfl) rfl
theorem q1549 : (Jvm.Cond.methodLinkNest "LibraryDesk" (193 : Nat) ({ cls := "LibraryDesk$TreeThing", name := "<init>", desc := "()V" } : Jvm.MethodName) "LibraryDesk") ∈ lw_tbl := lw_at lw_m5 82 rfl
theorem q1583 : (Jvm.Cond.classLink "LibraryDesk" (194 : Nat) "LibraryDesk$HeapThing") ∈ lw_all := lw_g (lw_at lw_m5 116 rfl) rfl
theorem q1585 : (Jvm.Cond.methodLinkNest "LibraryDesk" (196 : Nat) ({ cls := "LibraryDesk$HeapThing", name := "<init>", desc := "()V" } : Jvm.MethodName) "LibraryDesk") ∈ lw_tbl := lw_at lw_m5 118 rfl
theorem q1610 : (Jvm.Cond.classLink "LibraryDesk" (197 : Nat) "LibraryDesk$BitsThing") ∈ lw_all := lw_g (lw_at lw_m5 143 rfl) rfl
theorem q1612 : (Jvm.Cond.methodLinkNest "LibraryDesk" (199 : Nat) ({ cls := "LibraryDesk$BitsThing", name := "<init>", desc := "()V" } : Jvm.MethodName) "LibraryDesk") ∈ lw_tbl := lw_at lw_m5 145 rfl
theorem q1622 : (Jvm.Cond.classLink "LibraryDesk" (174 : Nat) "LibraryDesk$TextThing") ∈ lw_all := lw_g (lw_at lw_m5 155 rfl) rfl
theorem q1624 : (Jvm.Cond.methodLinkNest "LibraryDesk" (200 : Nat) ({ cls := "LibraryDesk$TextThing", name := "<init>", desc := "()V" } : Jvm.MethodName) "LibraryDesk") ∈ lw_tbl := lw_at lw_m5 157 rfl
theorem q1633 : (Jvm.Cond.fieldLinkNest "LibraryDesk" (505 : Nat) "LibraryDesk$TextThing" "size" "I" "LibraryDesk") ∈ lw_tbl := lw_at lw_m5 166 rfl
theorem q1641 : (Jvm.Cond.classLink "LibraryDesk" (201 : Nat) "LibraryDesk$PatternThing") ∈ lw_all := lw_g (lw_at lw_m5 174 rfl) rfl
theorem q1643 : (Jvm.Cond.methodLinkNest "LibraryDesk" (203 : Nat) ({ cls := "LibraryDesk$PatternThing", name := "<init>", desc := "()V" } : Jvm.MethodName) "LibraryDesk") ∈ lw_tbl := lw_at lw_m5 176 rfl
theorem q1698 : (Jvm.Cond.classLink "LibraryDesk" (204 : Nat) "LibraryDesk$CursorThing") ∈ lw_all := lw_g (lw_at lw_m5 231 rfl) rfl
theorem q1700 : (Jvm.Cond.methodLinkNest "LibraryDesk" (206 : Nat) ({ cls := "LibraryDesk$CursorThing", name := "<init>", desc := "()V" } : Jvm.MethodName) "LibraryDesk") ∈ lw_tbl := lw_at lw_m5 233 rfl
theorem q1719 : (Jvm.Cond.classLink "LibraryDesk" (207 : Nat) "LibraryDesk$ViewThing") ∈ lw_all := lw_g (lw_at lw_m6 12 rfl) rfl
theorem q1721 : (Jvm.Cond.methodLinkNest "LibraryDesk" (209 : Nat) ({ cls := "LibraryDesk$ViewThing", name := "<init>", desc := "()V" } : Jvm.MethodName) "LibraryDesk") ∈ lw_tbl := lw_at lw_m6 14 rfl
theorem q1740 : (Jvm.Cond.classLink "LibraryDesk" (210 : Nat) "LibraryDesk$WholeThing") ∈ lw_all := lw_g (lw_at lw_m6 33 rfl) rfl
theorem q1742 : (Jvm.Cond.methodLinkNest "LibraryDesk" (212 : Nat) ({ cls := "LibraryDesk$WholeThing", name := "<init>", desc := "()V" } : Jvm.MethodName) "LibraryDesk") ∈ lw_tbl := lw_at lw_m6 35 rfl
theorem q1749 : (Jvm.Cond.fieldLinkNest "LibraryDesk" (257 : Nat) "LibraryDesk$WholeThing" "value" "LLibraryDesk$Big;" "LibraryDesk") ∈ lw_tbl := lw_at lw_m6 42 rfl
theorem q1755 : (Jvm.Cond.classLink "LibraryDesk" (213 : Nat) "LibraryDesk$DecimalThing") ∈ lw_all := lw_g (lw_at lw_m6 48 rfl) rfl
theorem q1757 : (Jvm.Cond.methodLinkNest "LibraryDesk" (215 : Nat) ({ cls := "LibraryDesk$DecimalThing", name := "<init>", desc := "()V" } : Jvm.MethodName) "LibraryDesk") ∈ lw_tbl := lw_at lw_m6 50 rfl
theorem q1766 : (Jvm.Cond.fieldLinkNest "LibraryDesk" (266 : Nat) "LibraryDesk$DecimalThing" "value" "LLibraryDesk$Big;" "LibraryDesk") ∈ lw_tbl := lw_at lw_m6 59 rfl
theorem q1769 : (Jvm.Cond.fieldLinkNest "LibraryDesk" (267 : Nat) "LibraryDesk$DecimalThing" "scale" "I" "LibraryDesk") ∈ lw_tbl := lw_at lw_m6 62 rfl
theorem q1777 : (Jvm.Cond.classLink "LibraryDesk" (216 : Nat) "LibraryDesk$SubThing") ∈ lw_all := lw_g (lw_at lw_m6 70 rfl) rfl
theorem q1779 : (Jvm.Cond.methodLinkNest "LibraryDesk" (218 : Nat) ({ cls := "LibraryDesk$SubThing", name := "<init>", desc := "()V" } : Jvm.MethodName) "LibraryDesk") ∈ lw_tbl := lw_at lw_m6 72 rfl
theorem q1785 : (Jvm.Cond.fieldLinkNest "LibraryDesk" (436 : Nat) "LibraryDesk$SubThing" "tree" "LLibraryDesk$TreeThing;" "LibraryDesk") ∈ lw_tbl := lw_at lw_m6 78 rfl
theorem q1789 : (Jvm.Cond.fieldLinkNest "LibraryDesk" (454 : Nat) "LibraryDesk$SubThing" "turned" "Z" "LibraryDesk") ∈ lw_tbl := lw_at lw_m6 82 rfl
theorem q1817 : (Jvm.Cond.classLink "LibraryDesk" (219 : Nat) "LibraryDesk$SyncThing") ∈ lw_all := lw_g (lw_at lw_m6 110 rfl) rfl
theorem q1819 : (Jvm.Cond.methodLinkNest "LibraryDesk" (221 : Nat) ({ cls := "LibraryDesk$SyncThing", name := "<init>", desc := "(I)V" } : Jvm.MethodName) "LibraryDesk") ∈ lw_tbl := lw_at lw_m6 112 rfl
theorem q1833 : (Jvm.Cond.fieldLinkNest "LibraryDesk" (296 : Nat) "LibraryDesk$Row" "size" "I" "LibraryDesk") ∈ lw_tbl := lw_at lw_m6 126 rfl
theorem q1849 : (Jvm.Cond.fieldLinkNest "LibraryDesk" (292 : Nat) "LibraryDesk$SyncThing" "row" "LLibraryDesk$Row;" "LibraryDesk") ∈ lw_tbl := lw_at lw_m6 142 rfl
theorem q1852 : (Jvm.Cond.fieldLinkNest "LibraryDesk" (301 : Nat) "LibraryDesk$SyncThing" "second" "LLibraryDesk$Row;" "LibraryDesk") ∈ lw_tbl := lw_at lw_m6 145 rfl
theorem q1875 : (Jvm.Cond.methodLink "LibraryDesk" (285 : Nat) ({ cls := "LibraryDesk", name := "begin", desc := "(LLibraryDesk$Thing;II)V" } : Jvm.MethodName)) ∈ lw_all := lw_g (lw_at lw_m6 168 rfl) rfl
theorem q1876 : (Jvm.Cond.static ({ cls := "LibraryDesk", name := "begin", desc := "(LLibraryDesk$Thing;II)V" } : Jvm.MethodName)) ∈ lw_all := lw_g (lw_at lw_m6 169 rfl) rfl
theorem q1877 : (Jvm.Cond.code ({ cls := "LibraryDesk", name := "begin", desc := "(LLibraryDesk$Thing;II)V" } : Jvm.MethodName) prog_1_method_29_code (3 : Nat) (Option.none : Option Jvm.ClassFile.FieldType)) ∈ lw_all := lw_g (lw_at lw_m6 170 rfl) rfl
theorem q1878 : (Jvm.Cond.methodLinkNest "LibraryDesk" (240 : Nat) ({ cls := "LibraryDesk$Rows", name := "begin", desc := "(I)V" } : Jvm.MethodName) "LibraryDesk") ∈ lw_tbl := lw_at lw_m6 171 rfl
theorem q1882 : (Jvm.Cond.methodLinkNest "LibraryDesk" (245 : Nat) ({ cls := "LibraryDesk$RingThing", name := "begin", desc := "(I)V" } : Jvm.MethodName) "LibraryDesk") ∈ lw_tbl := lw_at lw_m6 175 rfl
theorem q1886 : (Jvm.Cond.methodLinkNest "LibraryDesk" (246 : Nat) ({ cls := "LibraryDesk$HashThing", name := "begin", desc := "(II)V" } : Jvm.MethodName) "LibraryDesk") ∈ lw_tbl := lw_at lw_m6 179 rfl
theorem q1894 : (Jvm.Cond.methodLinkNest "LibraryDesk" (249 : Nat) ({ cls := "LibraryDesk$LinkedThing", name := "begin", desc := "(IZ)V" } : Jvm.MethodName) "LibraryDesk") ∈ lw_tbl := lw_at lw_m6 187 rfl
theorem q1903 : (Jvm.Cond.methodLinkNest "LibraryDesk" (252 : Nat) ({ cls := "LibraryDesk$TreeThing", name := "begin", desc := "(I)V" } : Jvm.MethodName) "LibraryDesk") ∈ lw_tbl := lw_at lw_m6 196 rfl
theorem q1908 : (Jvm.Cond.methodLinkNest "LibraryDesk" (253 : Nat) ({ cls := "LibraryDesk$HeapThing", name := "begin", desc := "(II)V" } : Jvm.MethodName) "LibraryDesk") ∈ lw_tbl := lw_at lw_m6 201 rfl
theorem q1912 : (Jvm.Cond.methodLinkNest "LibraryDesk" (254 : Nat) ({ cls := "LibraryDesk$BitsThing", name := "begin", desc := "()V" } : Jvm.MethodName) "LibraryDesk") ∈ lw_tbl := lw_at lw_m6 205 rfl
theorem q1916 : (Jvm.Cond.methodLinkNest "LibraryDesk" (256 : Nat) ({ cls := "LibraryDesk$TextThing", name := "begin", desc := "()V" } : Jvm.MethodName) "LibraryDesk") ∈ lw_tbl := lw_at lw_m6 209 rfl
theorem q1920 : (Jvm.Cond.methodLinkNest "LibraryDesk" (261 : Nat) ({ cls := "LibraryDesk$Big", name := "zero", desc := "()V" } : Jvm.MethodName) "LibraryDesk") ∈ lw_tbl := lw_at lw_m6 213 rfl
theorem q1924 : (Jvm.Cond.methodLinkNest "LibraryDesk" (270 : Nat) ({ cls := "LibraryDesk$SyncThing", name := "begin", desc := "(II)V" } : Jvm.MethodName) "LibraryDesk") ∈ lw_tbl := lw_at lw_m6 217 rfl
theorem q1929 : (Jvm.Cond.methodLink "LibraryDesk" (288 : Nat) ({ cls := "LibraryDesk", name := "keep", desc := "(LLibraryDesk$Thing;I)I" } : Jvm.MethodName)) ∈ lw_all := lw_g (lw_at lw_m6 222 rfl) rfl
theorem q1930 : (Jvm.Cond.privateMethod ({ cls := "LibraryDesk", name := "keep", desc := "(LLibraryDesk$Thing;I)I" } : Jvm.MethodName)) ∈ lw_tbl := lw_at lw_m6 223 rfl
theorem q1931 : (Jvm.Cond.instanceMethod ({ cls := "LibraryDesk", name := "keep", desc := "(LLibraryDesk$Thing;I)I" } : Jvm.MethodName)) ∈ lw_all := lw_g (lw_at lw_m6 224 rfl) rfl
theorem q1932 : (Jvm.Cond.code ({ cls := "LibraryDesk", name := "keep", desc := "(LLibraryDesk$Thing;I)I" } : Jvm.MethodName) prog_1_method_26_code (4 : Nat) (Option.some Jvm.ClassFile.FieldType.int)) ∈ lw_all := lw_g (lw_at lw_m6 225 rfl) rfl
theorem q1938 : (Jvm.Cond.instanceMethod ({ cls := "LibraryDesk", name := "drop", desc := "(I)I" } : Jvm.MethodName)) ∈ lw_all := lw_g (lw_at lw_m6 231 rfl) rfl
theorem q1939 : (Jvm.Cond.selects "LibraryDesk" ({ cls := "LibraryDesk", name := "drop", desc := "(I)I" } : Jvm.MethodName) ({ cls := "LibraryDesk", name := "drop", desc := "(I)I" } : Jvm.MethodName)) ∈ lw_all := lw_g (lw_at lw_m6 232 rfl) rfl
theorem q1940 : (Jvm.Cond.code ({ cls := "LibraryDesk", name := "drop", desc := "(I)I" } : Jvm.MethodName) prog_1_method_31_code (6 : Nat) (Option.some Jvm.ClassFile.FieldType.int)) ∈ lw_all := lw_g (lw_at lw_m6 233 rfl) rfl
theorem q1941 : (Jvm.Cond.methodLink "LibraryDesk" (155 : Nat) ({ cls := "LibraryDesk", name := "thing", desc := "(I)LLibraryDesk$Thing;" } : Jvm.MethodName)) ∈ lw_all := lw_g (lw_at lw_m6 234 rfl) rfl
theorem q1942 : (Jvm.Cond.privateMethod ({ cls := "LibraryDesk", name := "thing", desc := "(I)LLibraryDesk$Thing;" } : Jvm.MethodName)) ∈ lw_tbl := lw_at lw_m6 235 rfl
theorem q1943 : (Jvm.Cond.instanceMethod ({ cls := "LibraryDesk", name := "thing", desc := "(I)LLibraryDesk$Thing;" } : Jvm.MethodName)) ∈ lw_all := lw_g (lw_at lw_m6 236 rfl) rfl
theorem q1944 : (Jvm.Cond.code ({ cls := "LibraryDesk", name := "thing", desc := "(I)LLibraryDesk$Thing;" } : Jvm.MethodName) prog_1_method_17_code (2 : Nat) (Option.some (Jvm.ClassFile.FieldType.object "LibraryDesk$Thing"))) ∈ lw_all := lw_g (lw_at lw_m6 237 rfl) rfl
theorem q1945 : (Jvm.Cond.methodLink "LibraryDesk" (152 : Nat) ({ cls := "LibraryDesk", name := "there", desc := "(Z)V" } : Jvm.MethodName)) ∈ lw_all := lw_g (lw_at lw_m6 238 rfl) rfl
theorem q1946 : (Jvm.Cond.static ({ cls := "LibraryDesk", name := "there", desc := "(Z)V" } : Jvm.MethodName)) ∈ lw_all := lw_g (lw_at lw_m6 239 rfl) rfl
theorem q1947 : (Jvm.Cond.code ({ cls := "LibraryDesk", name := "there", desc := "(Z)V" } : Jvm.MethodName) prog_1_method_2_code (1 : Nat) (Option.none : Option Jvm.ClassFile.FieldType)) ∈ lw_all := lw_g (lw_at lw_m7 0 rfl) rfl
theorem q1948 : (Jvm.Cond.classLink "LibraryDesk" (7 : Nat) "java/util/NoSuchElementException") ∈ lw_all := lw_g (lw_at lw_m7 1 rfl) rfl
theorem q1957 : (Jvm.Cond.methodLink "LibraryDesk" (9 : Nat) ({ cls := "java/util/NoSuchElementException", name := "<init>", desc := "()V" } : Jvm.MethodName)) ∈ lw_all := lw_g (lw_at lw_m7 10 rfl) rfl
theorem q1963 : (Jvm.Cond.methodLink "LibraryDesk" (304 : Nat) ({ cls := "LibraryDesk", name := "release", desc := "(I)V" } : Jvm.MethodName)) ∈ lw_all := lw_g (lw_at lw_m7 16 rfl) rfl
theorem q1964 : (Jvm.Cond.privateMethod ({ cls := "LibraryDesk", name := "release", desc := "(I)V" } : Jvm.MethodName)) ∈ lw_tbl := lw_at lw_m7 17 rfl
theorem q1965 : (Jvm.Cond.instanceMethod ({ cls := "LibraryDesk", name := "release", desc := "(I)V" } : Jvm.MethodName)) ∈ lw_all := lw_g (lw_at lw_m7 18 rfl) rfl
theorem q1966 : (Jvm.Cond.code ({ cls := "LibraryDesk", name := "release", desc := "(I)V" } : Jvm.MethodName) prog_1_method_32_code (2 : Nat) (Option.none : Option Jvm.ClassFile.FieldType)) ∈ lw_all := lw_g (lw_at lw_m7 19 rfl) rfl
theorem q1986 : (Jvm.Cond.instanceMethod ({ cls := "LibraryDesk", name := "list", desc := "(IIII)J" } : Jvm.MethodName)) ∈ lw_all := lw_g (lw_at lw_m7 39 rfl) rfl
theorem q1987 : (Jvm.Cond.selects "LibraryDesk" ({ cls := "LibraryDesk", name := "list", desc := "(IIII)J" } : Jvm.MethodName) ({ cls := "LibraryDesk", name := "list", desc := "(IIII)J" } : Jvm.MethodName)) ∈ lw_all := lw_g (lw_at lw_m7 40 rfl) rfl
theorem q1988 : (Jvm.Cond.code ({ cls := "LibraryDesk", name := "list", desc := "(IIII)J" } : Jvm.MethodName) prog_1_method_33_code (7 : Nat) (Option.some Jvm.ClassFile.FieldType.long)) ∈ lw_all := lw_g (lw_at lw_m7 41 rfl) rfl
theorem q1989 : (Jvm.Cond.methodLinkNest "LibraryDesk" (307 : Nat) ({ cls := "LibraryDesk$ListWork", name := "asksOthe\x72", desc := "(I)Z" } : Jvm.MethodName) "LibraryDesk") ∈ lw_tbl := lw_at lw_m7 42 rfl
theorem q1992 : (Jvm.Cond.methodLink "LibraryDesk" (311 : Nat) ({ cls := "LibraryDesk", name := "both", desc := "(II)V" } : Jvm.MethodName)) ∈ lw_all := lw_g (lw_at lw_m7 45 rfl) rfl
theorem q1993 : (Jvm.Cond.privateMethod ({ cls := "LibraryDesk", name := "both", desc := "(II)V" } : Jvm.MethodName)) ∈ lw_tbl := lw_at lw_m7 46 rfl
theorem q1994 : (Jvm.Cond.instanceMethod ({ cls := "LibraryDesk", name := "both", desc := "(II)V" } : Jvm.MethodName)) ∈ lw_all := lw_g (lw_at lw_m7 47 rfl) rfl
theorem q1995 : (Jvm.Cond.code ({ cls := "LibraryDesk", name := "both", desc := "(II)V" } : Jvm.MethodName) prog_1_method_18_code (3 : Nat) (Option.none : Option Jvm.ClassFile.FieldType)) ∈ lw_all := lw_g (lw_at lw_m7 48 rfl) rfl
theorem q1996 : (Jvm.Cond.methodLink "LibraryDesk" (314 : Nat) ({ cls := "LibraryDesk", name := "places", desc := "(I)LLibraryDesk$Places;" } : Jvm.MethodName)) ∈ lw_all := lw_g (lw_at lw_m7 49 rfl) rfl
theorem q1997 : (Jvm.Cond.privateMethod ({ cls := "LibraryDesk", name := "places", desc := "(I)LLibraryDesk$Places;" } : Jvm.MethodName)) ∈ lw_tbl := lw_at lw_m7 50 rfl
theorem q1998 : (Jvm.Cond.instanceMethod ({ cls := "LibraryDesk", name := "places", desc := "(I)LLibraryDesk$Places;" } : Jvm.MethodName)) ∈ lw_all := lw_g (lw_at lw_m7 51 rfl) rfl
theorem q1999 : (Jvm.Cond.code ({ cls := "LibraryDesk", name := "places", desc := "(I)LLibraryDesk$Places;" } : Jvm.MethodName) prog_1_method_19_code (3 : Nat) (Option.some (Jvm.ClassFile.FieldType.object "LibraryDesk$Places"))) ∈ lw_all := lw_g (lw_at lw_m7 52 rfl) rfl
theorem q2000 : (Jvm.Cond.classLink "LibraryDesk" (159 : Nat) "LibraryDesk$Places") ∈ lw_all := lw_g (lw_at lw_m7 53 rfl) rfl
theorem q2001 : (Jvm.Cond.methodLink "LibraryDesk" (161 : Nat) ({ cls := "LibraryDesk", name := "fits", desc := "(Z)V" } : Jvm.MethodName)) ∈ lw_all := lw_g (lw_at lw_m7 54 rfl) rfl
theorem q2002 : (Jvm.Cond.static ({ cls := "LibraryDesk", name := "fits", desc := "(Z)V" } : Jvm.MethodName)) ∈ lw_all := lw_g (lw_at lw_m7 55 rfl) rfl
theorem q2003 : (Jvm.Cond.code ({ cls := "LibraryDesk", name := "fits", desc := "(Z)V" } : Jvm.MethodName) prog_1_method_3_code (1 : Nat) (Option.none : Option Jvm.ClassFile.FieldType)) ∈ lw_all := lw_g (lw_at lw_m7 56 rfl) rfl
theorem q2004 : (Jvm.Cond.classLink "LibraryDesk" (10 : Nat) "java/lang/ClassCastException") ∈ lw_all := lw_g (lw_at lw_m7 57 rfl) rfl
theorem q2005 : (Jvm.Cond.methodLink "LibraryDesk" (12 : Nat) ({ cls := "java/lang/ClassCastException", name := "<init>", desc := "()V" } : Jvm.MethodName)) ∈ lw_all := lw_g (lw_at lw_m7 58 rfl) rfl
theorem q2009 : (Jvm.Cond.methodLink "LibraryDesk" (318 : Nat) ({ cls := "LibraryDesk$Places", name := "check", desc := "()V" } : Jvm.MethodName)) ∈ lw_all := lw_g (lw_at lw_m7 62 rfl) rfl
theorem q2030 : (Jvm.Cond.methodLinkNest "LibraryDesk" (321 : Nat) ({ cls := "LibraryDesk$ListWork", name := "call", desc := "(LLibraryDesk$Places;III)J" } : Jvm.MethodName) "LibraryDesk") ∈ lw_tbl := lw_at lw_m7 83 rfl
theorem q2141 : (Jvm.Cond.static ({ cls := "LibraryDesk", name := "mod", desc := "(II)I" } : Jvm.MethodName)) ∈ lw_all := lw_g (lw_at lw_m7 194 rfl) rfl
theorem q2142 : (Jvm.Cond.code ({ cls := "LibraryDesk", name := "mod", desc := "(II)I" } : Jvm.MethodName) prog_1_method_8_code (3 : Nat) (Option.some Jvm.ClassFile.FieldType.int)) ∈ lw_all := lw_g (lw_at lw_m7 195 rfl) rfl
theorem q2170 : (Jvm.Cond.static ({ cls := "LibraryDesk", name := "can", desc := "(Z)V" } : Jvm.MethodName)) ∈ lw_all := lw_g (lw_at lw_m7 223 rfl) rfl
theorem q2171 : (Jvm.Cond.code ({ cls := "LibraryDesk", name := "can", desc := "(Z)V" } : Jvm.MethodName) prog_1_method_5_code (1 : Nat) (Option.none : Option Jvm.ClassFile.FieldType)) ∈ lw_all := lw_g (lw_at lw_m7 224 rfl) rfl
theorem q2172 : (Jvm.Cond.classLink "LibraryDesk" (16 : Nat) "java/lang/UnsupportedOperationException") ∈ lw_all := lw_g (lw_at lw_m7 225 rfl) rfl
theorem q2181 : (Jvm.Cond.methodLink "LibraryDesk" (18 : Nat) ({ cls := "java/lang/UnsupportedOperationException", name := "<init>", desc := "()V" } : Jvm.MethodName)) ∈ lw_all := lw_g (lw_at lw_m7 234 rfl) rfl
theorem q2220 : (Jvm.Cond.static ({ cls := "LibraryDesk", name := "next", desc := "(I)I" } : Jvm.MethodName)) ∈ lw_all := lw_g (lw_at lw_m8 33 rfl) rfl
theorem q2221 : (Jvm.Cond.code ({ cls := "LibraryDesk", name := "next", desc := "(I)I" } : Jvm.MethodName) prog_1_method_9_code (1 : Nat) (Option.some Jvm.ClassFile.FieldType.int)) ∈ lw_all := lw_g (lw_at lw_m8 34 rfl) rfl
theorem q2222 : (Jvm.Cond.constant "LibraryDesk" (25 : Nat) (1103515245 : Int32)) ∈ lw_all := lw_g (lw_at lw_m8 35 rfl) rfl
theorem q2224 : (Jvm.Cond.static ({ cls := "LibraryDesk", name := "draw", desc := "(II)I" } : Jvm.MethodName)) ∈ lw_all := lw_g (lw_at lw_m8 37 rfl) rfl
theorem q2225 : (Jvm.Cond.code ({ cls := "LibraryDesk", name := "draw", desc := "(II)I" } : Jvm.MethodName) prog_1_method_10_code (2 : Nat) (Option.some Jvm.ClassFile.FieldType.int)) ∈ lw_all := lw_g (lw_at lw_m8 38 rfl) rfl
theorem q2226 : (Jvm.Cond.methodLinkNest "LibraryDesk" (325 : Nat) ({ cls := "LibraryDesk$ListWork", name := "addAll", desc := "(LLibraryDesk$Places;ILLibraryDesk$Places;)I" } : Jvm.MethodName) "LibraryDesk") ∈ lw_tbl := lw_at lw_m8 39 rfl
theorem q2231 : (Jvm.Cond.methodLinkNest "LibraryDesk" (329 : Nat) ({ cls := "LibraryDesk$ListWork", name := "same", desc := "(LLibraryDesk$Places;LLibraryDesk$Places;)I" } : Jvm.MethodName) "LibraryDesk") ∈ lw_tbl := lw_at lw_m8 44 rfl
theorem q2234 : (Jvm.Cond.methodLinkNest "LibraryDesk" (333 : Nat) ({ cls := "LibraryDesk$ListWork", name := "removeAll", desc := "(LLibraryDesk$Places;LLibraryDesk$Places;Z)I" } : Jvm.MethodName) "LibraryDesk") ∈ lw_tbl := lw_at lw_m8 47 rfl
theorem q2246 : (Jvm.Cond.instanceMethod ({ cls := "LibraryDesk", name := "ring", desc := "(III)J" } : Jvm.MethodName)) ∈ lw_all := lw_g (lw_at lw_m8 59 rfl) rfl
theorem q2247 : (Jvm.Cond.selects "LibraryDesk" ({ cls := "LibraryDesk", name := "ring", desc := "(III)J" } : Jvm.MethodName) ({ cls := "LibraryDesk", name := "ring", desc := "(III)J" } : Jvm.MethodName)) ∈ lw_all := lw_g (lw_at lw_m8 60 rfl) rfl
theorem q2248 : (Jvm.Cond.code ({ cls := "LibraryDesk", name := "ring", desc := "(III)J" } : Jvm.MethodName) prog_1_method_34_code (5 : Nat) (Option.some Jvm.ClassFile.FieldType.long)) ∈ lw_all := lw_g (lw_at lw_m8 61 rfl) rfl
theorem q2249 : (Jvm.Cond.methodLink "LibraryDesk" (170 : Nat) ({ cls := "LibraryDesk", name := "of", desc := "(II)LLibraryDesk$Thing;" } : Jvm.MethodName)) ∈ lw_all := lw_g (lw_at lw_m8 62 rfl) rfl
theorem q2250 : (Jvm.Cond.privateMethod ({ cls := "LibraryDesk", name := "of", desc := "(II)LLibraryDesk$Thing;" } : Jvm.MethodName)) ∈ lw_tbl := lw_at lw_m8 63 rfl
theorem q2251 : (Jvm.Cond.instanceMethod ({ cls := "LibraryDesk", name := "of", desc := "(II)LLibraryDesk$Thing;" } : Jvm.MethodName)) ∈ lw_all := lw_g (lw_at lw_m8 64 rfl) rfl
theorem q2252 : (Jvm.Cond.code ({ cls := "LibraryDesk", name := "of", desc := "(II)LLibraryDesk$Thing;" } : Jvm.MethodName) prog_1_method_21_code (4 : Nat) (Option.some (Jvm.ClassFile.FieldType.object "LibraryDesk$Thing"))) ∈ lw_all := lw_g (lw_at lw_m8 65 rfl) rfl
theorem q2253 : (Jvm.Cond.methodLinkNest "LibraryDesk" (337 : Nat) ({ cls := "LibraryDesk$RingThing", name := "call", desc := "(II)J" } : Jvm.MethodName) "LibraryDesk") ∈ lw_tbl := lw_at lw_m8 66 rfl
theorem q2305 : (Jvm.Cond.instanceMethod ({ cls := "LibraryDesk", name := "map", desc := "(IIII)J" } : Jvm.MethodName)) ∈ lw_all := lw_g (lw_at lw_m8 118 rfl) rfl
theorem q2306 : (Jvm.Cond.selects "LibraryDesk" ({ cls := "LibraryDesk", name := "map", desc := "(IIII)J" } : Jvm.MethodName) ({ cls := "LibraryDesk", name := "map", desc := "(IIII)J" } : Jvm.MethodName)) ∈ lw_all := lw_g (lw_at lw_m8 119 rfl) rfl
theorem q2307 : (Jvm.Cond.code ({ cls := "LibraryDesk", name := "map", desc := "(IIII)J" } : Jvm.MethodName) prog_1_method_36_code (8 : Nat) (Option.some Jvm.ClassFile.FieldType.long)) ∈ lw_all := lw_g (lw_at lw_m8 120 rfl) rfl
theorem q2308 : (Jvm.Cond.methodLink "LibraryDesk" (344 : Nat) ({ cls := "LibraryDesk", name := "maps", desc := "(I)LLibraryDesk$Maps;" } : Jvm.MethodName)) ∈ lw_all := lw_g (lw_at lw_m8 121 rfl) rfl
theorem q2309 : (Jvm.Cond.privateMethod ({ cls := "LibraryDesk", name := "maps", desc := "(I)LLibraryDesk$Maps;" } : Jvm.MethodName)) ∈ lw_tbl := lw_at lw_m8 122 rfl
theorem q2310 : (Jvm.Cond.instanceMethod ({ cls := "LibraryDesk", name := "maps", desc := "(I)LLibraryDesk$Maps;" } : Jvm.MethodName)) ∈ lw_all := lw_g (lw_at lw_m8 123 rfl) rfl
theorem q2311 : (Jvm.Cond.code ({ cls := "LibraryDesk", name := "maps", desc := "(I)LLibraryDesk$Maps;" } : Jvm.MethodName) prog_1_method_20_code (3 : Nat) (Option.some (Jvm.ClassFile.FieldType.object "LibraryDesk$Maps"))) ∈ lw_all := lw_g (lw_at lw_m8 124 rfl) rfl
theorem q2312 : (Jvm.Cond.classLink "LibraryDesk" (164 : Nat) "LibraryDesk$Maps") ∈ lw_all := lw_g (lw_at lw_m8 125 rfl) rfl
theorem q2313 : (Jvm.Cond.methodLink "LibraryDesk" (348 : Nat) ({ cls := "LibraryDesk", name := "checkOp", desc := "(LLibraryDesk$Maps;I)V" } : Jvm.MethodName)) ∈ lw_all := lw_g (lw_at lw_m8 126 rfl) rfl
theorem q2314 : (Jvm.Cond.static ({ cls := "LibraryDesk", name := "checkOp", desc := "(LLibraryDesk$Maps;I)V" } : Jvm.MethodName)) ∈ lw_all := lw_g (lw_at lw_m8 127 rfl) rfl
theorem q2315 : (Jvm.Cond.code ({ cls := "LibraryDesk", name := "checkOp", desc := "(LLibraryDesk$Maps;I)V" } : Jvm.MethodName) prog_1_method_35_code (3 : Nat) (Option.none : Option Jvm.ClassFile.FieldType)) ∈ lw_all := lw_g (lw_at lw_m8 128 rfl) rfl
theorem q2316 : (Jvm.Cond.methodLink "LibraryDesk" (340 : Nat) ({ cls := "LibraryDesk$Maps", name := "kind", desc := "()I" } : Jvm.MethodName)) ∈ lw_all := lw_g (lw_at lw_m8 129 rfl) rfl
theorem q2322 : (Jvm.Cond.methodLink "LibraryDesk" (341 : Nat) ({ cls := "LibraryDesk", name := "can", desc := "(Z)V" } : Jvm.MethodName)) ∈ lw_all := lw_g (lw_at lw_m8 135 rfl) rfl
theorem q2323 : (Jvm.Cond.methodLink "LibraryDesk" (352 : Nat) ({ cls := "LibraryDesk$Maps", name := "put", desc := "(IIZZ)J" } : Jvm.MethodName)) ∈ lw_all := lw_g (lw_at lw_m8 136 rfl) rfl
theorem q2517 : (Jvm.Cond.methodLink "LibraryDesk" (356 : Nat) ({ cls := "LibraryDesk$Maps", name := "get", desc := "(I)J" } : Jvm.MethodName)) ∈ lw_all := lw_g (lw_at lw_m9 90 rfl) rfl
theorem q2525 : (Jvm.Cond.methodLink "LibraryDesk" (360 : Nat) ({ cls := "LibraryDesk$Maps", name := "drop", desc := "(I)J" } : Jvm.MethodName)) ∈ lw_all := lw_g (lw_at lw_m9 98 rfl) rfl
theorem q2562 : (Jvm.Cond.methodLink "LibraryDesk" (363 : Nat) ({ cls := "LibraryDesk$Maps", name := "find", desc := "(I)I" } : Jvm.MethodName)) ∈ lw_all := lw_g (lw_at lw_m9 135 rfl) rfl
theorem q2563 : (Jvm.Cond.methodLink "LibraryDesk" (367 : Nat) ({ cls := "LibraryDesk$Maps", name := "size", desc := "()I" } : Jvm.MethodName)) ∈ lw_all := lw_g (lw_at lw_m9 136 rfl) rfl
theorem q2625 : (Jvm.Cond.methodLink "LibraryDesk" (369 : Nat) ({ cls := "LibraryDesk$Maps", name := "clea\x72", desc := "()V" } : Jvm.MethodName)) ∈ lw_all := lw_g (lw_at lw_m9 198 rfl) rfl
theorem q2640 : (Jvm.Cond.methodLink "LibraryDesk" (372 : Nat) ({ cls := "LibraryDesk$Maps", name := "more", desc := "(II)J" } : Jvm.MethodName)) ∈ lw_all := lw_g (lw_at lw_m9 213 rfl) rfl
theorem q2648 : (Jvm.Cond.methodLink "LibraryDesk" (375 : Nat) ({ cls := "LibraryDesk$Maps", name := "countValue", desc := "(I)I" } : Jvm.MethodName)) ∈ lw_all := lw_g (lw_at lw_m9 221 rfl) rfl
theorem q2682 : (Jvm.Cond.methodLink "LibraryDesk" (378 : Nat) ({ cls := "LibraryDesk$Maps", name := "end", desc := "(ZZ)J" } : Jvm.MethodName)) ∈ lw_all := lw_g (lw_at lw_m10 15 rfl) rfl
theorem q2719 : (Jvm.Cond.methodLink "LibraryDesk" (382 : Nat) ({ cls := "LibraryDesk$Maps", name := "hash", desc := "()I" } : Jvm.MethodName)) ∈ lw_all := lw_g (lw_at lw_m10 52 rfl) rfl
theorem q2727 : (Jvm.Cond.methodLink "LibraryDesk" (385 : Nat) ({ cls := "LibraryDesk$Maps", name := "same", desc := "(LLibraryDesk$Maps;)I" } : Jvm.MethodName)) ∈ lw_all := lw_g (lw_at lw_m10 60 rfl) rfl
theorem q2736 : (Jvm.Cond.methodLink "LibraryDesk" (388 : Nat) ({ cls := "LibraryDesk", name := "putAll", desc := "(LLibraryDesk$Maps;LLibraryDesk$Maps;)J" } : Jvm.MethodName)) ∈ lw_all := lw_g (lw_at lw_m10 69 rfl) rfl
theorem q2737 : (Jvm.Cond.privateMethod ({ cls := "LibraryDesk", name := "putAll", desc := "(LLibraryDesk$Maps;LLibraryDesk$Maps;)J" } : Jvm.MethodName)) ∈ lw_tbl := lw_at lw_m10 70 rfl
theorem q2738 : (Jvm.Cond.instanceMethod ({ cls := "LibraryDesk", name := "putAll", desc := "(LLibraryDesk$Maps;LLibraryDesk$Maps;)J" } : Jvm.MethodName)) ∈ lw_all := lw_g (lw_at lw_m10 71 rfl) rfl
theorem q2739 : (Jvm.Cond.code ({ cls := "LibraryDesk", name := "putAll", desc := "(LLibraryDesk$Maps;LLibraryDesk$Maps;)J" } : Jvm.MethodName) prog_1_method_37_code (9 : Nat) (Option.some Jvm.ClassFile.FieldType.long)) ∈ lw_all := lw_g (lw_at lw_m10 72 rfl) rfl
theorem q2740 : (Jvm.Cond.methodLink "LibraryDesk" (408 : Nat) ({ cls := "LibraryDesk$Maps", name := "first", desc := "()I" } : Jvm.MethodName)) ∈ lw_all := lw_g (lw_at lw_m10 73 rfl) rfl
theorem q2741 : (Jvm.Cond.methodLink "LibraryDesk" (411 : Nat) ({ cls := "LibraryDesk$Maps", name := "key", desc := "(I)I" } : Jvm.MethodName)) ∈ lw_all := lw_g (lw_at lw_m10 74 rfl) rfl
theorem q2742 : (Jvm.Cond.methodLink "LibraryDesk" (414 : Nat) ({ cls := "LibraryDesk$Maps", name := "value", desc := "(I)I" } : Jvm.MethodName)) ∈ lw_all := lw_g (lw_at lw_m10 75 rfl) rfl
theorem q2743 : (Jvm.Cond.methodLinkNest "LibraryDesk" (416 : Nat) ({ cls := "LibraryDesk$SubThing", name := "holds", desc := "(I)Z" } : Jvm.MethodName) "LibraryDesk") ∈ lw_tbl := lw_at lw_m10 76 rfl
theorem q2744 : (Jvm.Cond.methodLink "LibraryDesk" (419 : Nat) ({ cls := "LibraryDesk", name := "isSecond", desc := "(LLibraryDesk$Maps;I)Z" } : Jvm.MethodName)) ∈ lw_all := lw_g (lw_at lw_m10 77 rfl) rfl
theorem q2745 : (Jvm.Cond.privateMethod ({ cls := "LibraryDesk", name := "isSecond", desc := "(LLibraryDesk$Maps;I)Z" } : Jvm.MethodName)) ∈ lw_tbl := lw_at lw_m10 78 rfl
theorem q2746 : (Jvm.Cond.instanceMethod ({ cls := "LibraryDesk", name := "isSecond", desc := "(LLibraryDesk$Maps;I)Z" } : Jvm.MethodName)) ∈ lw_all := lw_g (lw_at lw_m10 79 rfl) rfl
theorem q2747 : (Jvm.Cond.code ({ cls := "LibraryDesk", name := "isSecond", desc := "(LLibraryDesk$Maps;I)Z" } : Jvm.MethodName) prog_1_method_38_code (4 : Nat) (Option.some Jvm.ClassFile.FieldType.boolean)) ∈ lw_all := lw_g (lw_at lw_m10 80 rfl) rfl
theorem q2748 : (Jvm.Cond.methodLinkNest "LibraryDesk" (432 : Nat) ({ cls := "LibraryDesk$Nea\x72", name := "compare", desc := "(LLibraryDesk$Maps;II)I" } : Jvm.MethodName) "LibraryDesk") ∈ lw_tbl := lw_at lw_m10 81 rfl
theorem q2759 : (Jvm.Cond.methodLink "LibraryDesk" (423 : Nat) ({ cls := "LibraryDesk$Maps", name := "next", desc := "(I)I" } : Jvm.MethodName)) ∈ lw_all := lw_g (lw_at lw_m10 92 rfl) rfl
theorem q2760 : (Jvm.Cond.methodLink "LibraryDesk" (429 : Nat) ({ cls := "LibraryDesk", name := "rootSize", desc := "(LLibraryDesk$Maps;)I" } : Jvm.MethodName)) ∈ lw_all := lw_g (lw_at lw_m10 93 rfl) rfl
theorem q2761 : (Jvm.Cond.static ({ cls := "LibraryDesk", name := "rootSize", desc := "(LLibraryDesk$Maps;)I" } : Jvm.MethodName)) ∈ lw_all := lw_g (lw_at lw_m10 94 rfl) rfl
theorem q2762 : (Jvm.Cond.code ({ cls := "LibraryDesk", name := "rootSize", desc := "(LLibraryDesk$Maps;)I" } : Jvm.MethodName) prog_1_method_39_code (1 : Nat) (Option.some Jvm.ClassFile.FieldType.int)) ∈ lw_all := lw_g (lw_at lw_m10 95 rfl) rfl
theorem q2763 : (Jvm.Cond.methodLink "LibraryDesk" (440 : Nat) ({ cls := "LibraryDesk$TreeThing", name := "size", desc := "()I" } : Jvm.MethodName)) ∈ lw_all := lw_g (lw_at lw_m10 96 rfl) rfl
theorem q2764 : (Jvm.Cond.methodLinkNest "LibraryDesk" (395 : Nat) ({ cls := "LibraryDesk$HashThing", name := "bushyBins", desc := "()I" } : Jvm.MethodName) "LibraryDesk") ∈ lw_tbl := lw_at lw_m10 97 rfl
theorem q2768 : (Jvm.Cond.methodLinkNest "LibraryDesk" (398 : Nat) ({ cls := "LibraryDesk$Nea\x72", name := "rank", desc := "(LLibraryDesk$Maps;I)I" } : Jvm.MethodName) "LibraryDesk") ∈ lw_tbl := lw_at lw_m10 101 rfl
theorem q2775 : (Jvm.Cond.methodLinkNest "LibraryDesk" (404 : Nat) ({ cls := "LibraryDesk$Nea\x72", name := "nearest", desc := "(LLibraryDesk$Maps;II)J" } : Jvm.MethodName) "LibraryDesk") ∈ lw_tbl := lw_at lw_m10 108 rfl
theorem q2789 : (Jvm.Cond.instanceMethod ({ cls := "LibraryDesk", name := "view", desc := "(IIII)I" } : Jvm.MethodName)) ∈ lw_all := lw_g (lw_at lw_m10 122 rfl) rfl
theorem q2790 : (Jvm.Cond.selects "LibraryDesk" ({ cls := "LibraryDesk", name := "view", desc := "(IIII)I" } : Jvm.MethodName) ({ cls := "LibraryDesk", name := "view", desc := "(IIII)I" } : Jvm.MethodName)) ∈ lw_all := lw_g (lw_at lw_m10 123 rfl) rfl
theorem q2791 : (Jvm.Cond.code ({ cls := "LibraryDesk", name := "view", desc := "(IIII)I" } : Jvm.MethodName) prog_1_method_40_code (10 : Nat) (Option.some Jvm.ClassFile.FieldType.int)) ∈ lw_all := lw_g (lw_at lw_m10 124 rfl) rfl
theorem q2792 : (Jvm.Cond.methodLink "LibraryDesk" (441 : Nat) ({ cls := "LibraryDesk$Places", name := "size", desc := "()I" } : Jvm.MethodName)) ∈ lw_all := lw_g (lw_at lw_m10 125 rfl) rfl
theorem q2793 : (Jvm.Cond.methodLinkNest "LibraryDesk" (442 : Nat) ({ cls := "LibraryDesk$ViewThing", name := "begin", desc := "(LLibraryDesk$Places;II)V" } : Jvm.MethodName) "LibraryDesk") ∈ lw_tbl := lw_at lw_m10 126 rfl
theorem q2798 : (Jvm.Cond.methodLinkNest "LibraryDesk" (445 : Nat) ({ cls := "LibraryDesk$SubThing", name := "begin", desc := "(LLibraryDesk$Maps;)V" } : Jvm.MethodName) "LibraryDesk") ∈ lw_tbl := lw_at lw_m10 131 rfl
theorem q2805 : (Jvm.Cond.methodLinkNest "LibraryDesk" (448 : Nat) ({ cls := "LibraryDesk$SubThing", name := "fromOn", desc := "(I)V" } : Jvm.MethodName) "LibraryDesk") ∈ lw_tbl := lw_at lw_m10 138 rfl
theorem q2817 : (Jvm.Cond.methodLinkNest "LibraryDesk" (451 : Nat) ({ cls := "LibraryDesk$SubThing", name := "before", desc := "(I)V" } : Jvm.MethodName) "LibraryDesk") ∈ lw_tbl := lw_at lw_m10 150 rfl
theorem q2825 : (Jvm.Cond.instanceMethod ({ cls := "LibraryDesk", name := "curso\x72", desc := "(I)I" } : Jvm.MethodName)) ∈ lw_all := lw_g (lw_at lw_m10 158 rfl) rfl
theorem q2826 : (Jvm.Cond.selects "LibraryDesk" ({ cls := "LibraryDesk", name := "curso\x72", desc := "(I)I" } : Jvm.MethodName) ({ cls := "LibraryDesk", name := "curso\x72", desc := "(I)I" } : Jvm.MethodName)) ∈ lw_all := lw_g (lw_at lw_m10 159 rfl) rfl
theorem q2827 : (Jvm.Cond.code ({ cls := "LibraryDesk", name := "curso\x72", desc := "(I)I" } : Jvm.MethodName) prog_1_method_41_code (5 : Nat) (Option.some Jvm.ClassFile.FieldType.int)) ∈ lw_all := lw_g (lw_at lw_m10 160 rfl) rfl
theorem q2828 : (Jvm.Cond.methodLinkNest "LibraryDesk" (457 : Nat) ({ cls := "LibraryDesk$CursorThing", name := "begin", desc := "(LLibraryDesk$Thing;)V" } : Jvm.MethodName) "LibraryDesk") ∈ lw_tbl := lw_at lw_m10 161 rfl
theorem q2859 : (Jvm.Cond.instanceMethod ({ cls := "LibraryDesk", name := "move", desc := "(III)J" } : Jvm.MethodName)) ∈ lw_all := lw_g (lw_at lw_m10 192 rfl) rfl
theorem q2860 : (Jvm.Cond.selects "LibraryDesk" ({ cls := "LibraryDesk", name := "move", desc := "(III)J" } : Jvm.MethodName) ({ cls := "LibraryDesk", name := "move", desc := "(III)J" } : Jvm.MethodName)) ∈ lw_all := lw_g (lw_at lw_m10 193 rfl) rfl
theorem q2861 : (Jvm.Cond.code ({ cls := "LibraryDesk", name := "move", desc := "(III)J" } : Jvm.MethodName) prog_1_method_42_code (5 : Nat) (Option.some Jvm.ClassFile.FieldType.long)) ∈ lw_all := lw_g (lw_at lw_m10 194 rfl) rfl
theorem q2862 : (Jvm.Cond.methodLinkNest "LibraryDesk" (460 : Nat) ({ cls := "LibraryDesk$CursorThing", name := "call", desc := "(II)J" } : Jvm.MethodName) "LibraryDesk") ∈ lw_tbl := lw_at lw_m10 195 rfl
theorem q2900 : (Jvm.Cond.instanceMethod ({ cls := "LibraryDesk", name := "heap", desc := "(III)J" } : Jvm.MethodName)) ∈ lw_all := lw_g (lw_at lw_m10 233 rfl) rfl
theorem q2901 : (Jvm.Cond.selects "LibraryDesk" ({ cls := "LibraryDesk", name := "heap", desc := "(III)J" } : Jvm.MethodName) ({ cls := "LibraryDesk", name := "heap", desc := "(III)J" } : Jvm.MethodName)) ∈ lw_all := lw_g (lw_at lw_m10 234 rfl) rfl
theorem q2902 : (Jvm.Cond.code ({ cls := "LibraryDesk", name := "heap", desc := "(III)J" } : Jvm.MethodName) prog_1_method_43_code (6 : Nat) (Option.some Jvm.ClassFile.FieldType.long)) ∈ lw_all := lw_g (lw_at lw_m10 235 rfl) rfl
theorem q2903 : (Jvm.Cond.methodLinkNest "LibraryDesk" (461 : Nat) ({ cls := "LibraryDesk$HeapThing", name := "call", desc := "(II)J" } : Jvm.MethodName) "LibraryDesk") ∈ lw_tbl := lw_at lw_m10 236 rfl
theorem q2946 : (Jvm.Cond.methodLinkNest "LibraryDesk" (462 : Nat) ({ cls := "LibraryDesk$HeapThing", name := "addAll", desc := "(LLibraryDesk$Places;)J" } : Jvm.MethodName) "LibraryDesk") ∈ lw_tbl := lw_at lw_m11 39 rfl
theorem q2956 : (Jvm.Cond.instanceMethod ({ cls := "LibraryDesk", name := "bits", desc := "(IIII)J" } : Jvm.MethodName)) ∈ lw_all := lw_g (lw_at lw_m11 49 rfl) rfl
theorem q2957 : (Jvm.Cond.selects "LibraryDesk" ({ cls := "LibraryDesk", name := "bits", desc := "(IIII)J" } : Jvm.MethodName) ({ cls := "LibraryDesk", name := "bits", desc := "(IIII)J" } : Jvm.MethodName)) ∈ lw_all := lw_g (lw_at lw_m11 50 rfl) rfl
theorem q2958 : (Jvm.Cond.code ({ cls := "LibraryDesk", name := "bits", desc := "(IIII)J" } : Jvm.MethodName) prog_1_method_44_code (7 : Nat) (Option.some Jvm.ClassFile.FieldType.long)) ∈ lw_all := lw_g (lw_at lw_m11 51 rfl) rfl
theorem q2959 : (Jvm.Cond.methodLinkNest "LibraryDesk" (465 : Nat) ({ cls := "LibraryDesk$BitsThing", name := "isOfOne", desc := "(I)Z" } : Jvm.MethodName) "LibraryDesk") ∈ lw_tbl := lw_at lw_m11 52 rfl
theorem q2962 : (Jvm.Cond.methodLinkNest "LibraryDesk" (468 : Nat) ({ cls := "LibraryDesk$BitsThing", name := "call", desc := "(III)J" } : Jvm.MethodName) "LibraryDesk") ∈ lw_tbl := lw_at lw_m11 55 rfl
theorem q2996 : (Jvm.Cond.methodLinkNest "LibraryDesk" (471 : Nat) ({ cls := "LibraryDesk$BitsThing", name := "with", desc := "(ILLibraryDesk$BitsThing;)I" } : Jvm.MethodName) "LibraryDesk") ∈ lw_tbl := lw_at lw_m11 89 rfl
theorem q3000 : (Jvm.Cond.methodLinkNest "LibraryDesk" (475 : Nat) ({ cls := "LibraryDesk$BitsThing", name := "ask", desc := "(ILLibraryDesk$BitsThing;)I" } : Jvm.MethodName) "LibraryDesk") ∈ lw_tbl := lw_at lw_m11 93 rfl
theorem q3008 : (Jvm.Cond.instanceMethod ({ cls := "LibraryDesk", name := "item", desc := "(III)J" } : Jvm.MethodName)) ∈ lw_all := lw_g (lw_at lw_m11 101 rfl) rfl
theorem q3009 : (Jvm.Cond.selects "LibraryDesk" ({ cls := "LibraryDesk", name := "item", desc := "(III)J" } : Jvm.MethodName) ({ cls := "LibraryDesk", name := "item", desc := "(III)J" } : Jvm.MethodName)) ∈ lw_all := lw_g (lw_at lw_m11 102 rfl) rfl
theorem q3010 : (Jvm.Cond.code ({ cls := "LibraryDesk", name := "item", desc := "(III)J" } : Jvm.MethodName) prog_1_method_45_code (9 : Nat) (Option.some Jvm.ClassFile.FieldType.long)) ∈ lw_all := lw_g (lw_at lw_m11 103 rfl) rfl
theorem q3011 : (Jvm.Cond.methodLink "LibraryDesk" (478 : Nat) ({ cls := "LibraryDesk$Places", name := "get", desc := "(I)I" } : Jvm.MethodName)) ∈ lw_all := lw_g (lw_at lw_m11 104 rfl) rfl
theorem q3016 : (Jvm.Cond.instanceMethod ({ cls := "LibraryDesk", name := "text", desc := "(IIII)I" } : Jvm.MethodName)) ∈ lw_all := lw_g (lw_at lw_m11 109 rfl) rfl
theorem q3017 : (Jvm.Cond.selects "LibraryDesk" ({ cls := "LibraryDesk", name := "text", desc := "(IIII)I" } : Jvm.MethodName) ({ cls := "LibraryDesk", name := "text", desc := "(IIII)I" } : Jvm.MethodName)) ∈ lw_all := lw_g (lw_at lw_m11 110 rfl) rfl
theorem q3018 : (Jvm.Cond.codeWith ({ cls := "LibraryDesk", name := "text", desc := "(IIII)I" } : Jvm.MethodName) prog_1_method_47_code (9 : Nat) (Option.some Jvm.ClassFile.FieldType.int) [((107 : Nat), (126 : Nat), (127 : Nat), (150 : Nat))]) ∈ lw_all := lw_g (lw_at lw_m11 111 rfl) rfl
theorem q3019 : (Jvm.Cond.classLink "LibraryDesk" (150 : Nat) "LibraryDesk$Broken") ∈ lw_all := lw_g (lw_at lw_m11 112 rfl) rfl
theorem q3020 : (Jvm.Cond.methodLink "LibraryDesk" (480 : Nat) ({ cls := "LibraryDesk", name := "readsTape", desc := "(I)Z" } : Jvm.MethodName)) ∈ lw_all := lw_g (lw_at lw_m11 113 rfl) rfl
theorem q3021 : (Jvm.Cond.static ({ cls := "LibraryDesk", name := "readsTape", desc := "(I)Z" } : Jvm.MethodName)) ∈ lw_all := lw_g (lw_at lw_m11 114 rfl) rfl
theorem q3022 : (Jvm.Cond.code ({ cls := "LibraryDesk", name := "readsTape", desc := "(I)Z" } : Jvm.MethodName) prog_1_method_46_code (1 : Nat) (Option.some Jvm.ClassFile.FieldType.boolean)) ∈ lw_all := lw_g (lw_at lw_m11 115 rfl) rfl
theorem q3023 : (Jvm.Cond.methodLink "LibraryDesk" (483 : Nat) ({ cls := "LibraryDesk", name := "take", desc := "()I" } : Jvm.MethodName)) ∈ lw_all := lw_g (lw_at lw_m11 116 rfl) rfl
theorem q3024 : (Jvm.Cond.privateMethod ({ cls := "LibraryDesk", name := "take", desc := "()I" } : Jvm.MethodName)) ∈ lw_tbl := lw_at lw_m11 117 rfl
theorem q3025 : (Jvm.Cond.instanceMethod ({ cls := "LibraryDesk", name := "take", desc := "()I" } : Jvm.MethodName)) ∈ lw_all := lw_g (lw_at lw_m11 118 rfl) rfl
theorem q3026 : (Jvm.Cond.code ({ cls := "LibraryDesk", name := "take", desc := "()I" } : Jvm.MethodName) prog_1_method_15_code (2 : Nat) (Option.some Jvm.ClassFile.FieldType.int)) ∈ lw_all := lw_g (lw_at lw_m11 119 rfl) rfl
theorem q3027 : (Jvm.Cond.methodLink "LibraryDesk" (486 : Nat) ({ cls := "LibraryDesk", name := "texts", desc := "(I)LLibraryDesk$TextThing;" } : Jvm.MethodName)) ∈ lw_all := lw_g (lw_at lw_m11 120 rfl) rfl
theorem q3028 : (Jvm.Cond.privateMethod ({ cls := "LibraryDesk", name := "texts", desc := "(I)LLibraryDesk$TextThing;" } : Jvm.MethodName)) ∈ lw_tbl := lw_at lw_m11 121 rfl
theorem q3029 : (Jvm.Cond.instanceMethod ({ cls := "LibraryDesk", name := "texts", desc := "(I)LLibraryDesk$TextThing;" } : Jvm.MethodName)) ∈ lw_all := lw_g (lw_at lw_m11 122 rfl) rfl
theorem q3030 : (Jvm.Cond.code ({ cls := "LibraryDesk", name := "texts", desc := "(I)LLibraryDesk$TextThing;" } : Jvm.MethodName) prog_1_method_22_code (2 : Nat) (Option.some (Jvm.ClassFile.FieldType.object "LibraryDesk$TextThing"))) ∈ lw_all := lw_g (lw_at lw_m11 123 rfl) rfl
theorem q3031 : (Jvm.Cond.methodLinkNest "LibraryDesk" (490 : Nat) ({ cls := "LibraryDesk$TextThing", name := "compare", desc := "(LLibraryDesk$TextThing;)I" } : Jvm.MethodName) "LibraryDesk") ∈ lw_tbl := lw_at lw_m11 124 rfl
theorem q3039 : (Jvm.Cond.methodLinkNest "LibraryDesk" (493 : Nat) ({ cls := "LibraryDesk$TextThing", name := "call", desc := "(III[BILLibraryDesk$Out;)I" } : Jvm.MethodName) "LibraryDesk") ∈ lw_tbl := lw_at lw_m11 132 rfl
theorem q3121 : (Jvm.Cond.fieldLinkNest "LibraryDesk" (149 : Nat) "LibraryDesk$Broken" "place" "I" "LibraryDesk") ∈ lw_tbl := lw_at lw_m11 214 rfl
theorem q3152 : (Jvm.Cond.methodLink "LibraryDesk" (496 : Nat) ({ cls := "LibraryDesk", name := "broken", desc := "(LLibraryDesk$Broken;)Ljava/lang/UnsupportedOperationException;" } : Jvm.MethodName)) ∈ lw_all := lw_g (lw_at lw_m12 5 rfl) rfl
theorem q3153 : (Jvm.Cond.privateMethod ({ cls := "LibraryDesk", name := "broken", desc := "(LLibraryDesk$Broken;)Ljava/lang/UnsupportedOperationException;" } : Jvm.MethodName)) ∈ lw_tbl := lw_at lw_m12 6 rfl
theorem q3154 : (Jvm.Cond.instanceMethod ({ cls := "LibraryDesk", name := "broken", desc := "(LLibraryDesk$Broken;)Ljava/lang/UnsupportedOperationException;" } : Jvm.MethodName)) ∈ lw_all := lw_g (lw_at lw_m12 7 rfl) rfl
theorem q3155 : (Jvm.Cond.code ({ cls := "LibraryDesk", name := "broken", desc := "(LLibraryDesk$Broken;)Ljava/lang/UnsupportedOperationException;" } : Jvm.MethodName) prog_1_method_16_code (2 : Nat) (Option.some (Jvm.ClassFile.FieldType.object "java/lang/UnsupportedOperationException"))) ∈ lw_all := lw_g (lw_at lw_m12 8 rfl) rfl
theorem q3160 : (Jvm.Cond.instanceMethod ({ cls := "LibraryDesk", name := "pattern", desc := "()I" } : Jvm.MethodName)) ∈ lw_all := lw_g (lw_at lw_m12 13 rfl) rfl
theorem q3161 : (Jvm.Cond.selects "LibraryDesk" ({ cls := "LibraryDesk", name := "pattern", desc := "()I" } : Jvm.MethodName) ({ cls := "LibraryDesk", name := "pattern", desc := "()I" } : Jvm.MethodName)) ∈ lw_all := lw_g (lw_at lw_m12 14 rfl) rfl
theorem q3162 : (Jvm.Cond.codeWith ({ cls := "LibraryDesk", name := "pattern", desc := "()I" } : Jvm.MethodName) prog_1_method_48_code (4 : Nat) (Option.some Jvm.ClassFile.FieldType.int) [((19 : Nat), (32 : Nat), (35 : Nat), (150 : Nat))]) ∈ lw_all := lw_g (lw_at lw_m12 15 rfl) rfl
theorem q3163 : (Jvm.Cond.methodLinkNest "LibraryDesk" (500 : Nat) ({ cls := "LibraryDesk$PatternThing", name := "begin", desc := "()V" } : Jvm.MethodName) "LibraryDesk") ∈ lw_tbl := lw_at lw_m12 16 rfl
theorem q3167 : (Jvm.Cond.methodLinkNest "LibraryDesk" (501 : Nat) ({ cls := "LibraryDesk$PatternReade\x72", name := "read", desc := "([BILLibraryDesk$PatternThing;)V" } : Jvm.MethodName) "LibraryDesk") ∈ lw_tbl := lw_at lw_m12 20 rfl
theorem q3325 : (Jvm.Cond.instanceMethod ({ cls := "LibraryDesk", name := "match", desc := "(IIII)I" } : Jvm.MethodName)) ∈ lw_all := lw_g (lw_at lw_m12 178 rfl) rfl
theorem q3326 : (Jvm.Cond.selects "LibraryDesk" ({ cls := "LibraryDesk", name := "match", desc := "(IIII)I" } : Jvm.MethodName) ({ cls := "LibraryDesk", name := "match", desc := "(IIII)I" } : Jvm.MethodName)) ∈ lw_all := lw_g (lw_at lw_m12 179 rfl) rfl
theorem q3327 : (Jvm.Cond.code ({ cls := "LibraryDesk", name := "match", desc := "(IIII)I" } : Jvm.MethodName) prog_1_method_49_code (7 : Nat) (Option.some Jvm.ClassFile.FieldType.int)) ∈ lw_all := lw_g (lw_at lw_m12 180 rfl) rfl
theorem q3328 : (Jvm.Cond.methodLinkNest "LibraryDesk" (506 : Nat) ({ cls := "LibraryDesk$Matche\x72", name := "match", desc := "(LLibraryDesk$PatternThing;LLibraryDesk$TextThing;II)I" } : Jvm.MethodName) "LibraryDesk") ∈ lw_tbl := lw_at lw_m12 181 rfl
theorem q3404 : (Jvm.Cond.instanceMethod ({ cls := "LibraryDesk", name := "group", desc := "(II)I" } : Jvm.MethodName)) ∈ lw_all := lw_g (lw_at lw_m13 17 rfl) rfl
theorem q3405 : (Jvm.Cond.selects "LibraryDesk" ({ cls := "LibraryDesk", name := "group", desc := "(II)I" } : Jvm.MethodName) ({ cls := "LibraryDesk", name := "group", desc := "(II)I" } : Jvm.MethodName)) ∈ lw_all := lw_g (lw_at lw_m13 18 rfl) rfl
theorem q3406 : (Jvm.Cond.code ({ cls := "LibraryDesk", name := "group", desc := "(II)I" } : Jvm.MethodName) prog_1_method_50_code (3 : Nat) (Option.some Jvm.ClassFile.FieldType.int)) ∈ lw_all := lw_g (lw_at lw_m13 19 rfl) rfl
theorem q3411 : (Jvm.Cond.instanceMethod ({ cls := "LibraryDesk", name := "replace", desc := "(II)I" } : Jvm.MethodName)) ∈ lw_all := lw_g (lw_at lw_m13 24 rfl) rfl
theorem q3412 : (Jvm.Cond.selects "LibraryDesk" ({ cls := "LibraryDesk", name := "replace", desc := "(II)I" } : Jvm.MethodName) ({ cls := "LibraryDesk", name := "replace", desc := "(II)I" } : Jvm.MethodName)) ∈ lw_all := lw_g (lw_at lw_m13 25 rfl) rfl
theorem q3413 : (Jvm.Cond.codeWith ({ cls := "LibraryDesk", name := "replace", desc := "(II)I" } : Jvm.MethodName) prog_1_method_51_code (7 : Nat) (Option.some Jvm.ClassFile.FieldType.int) [((49 : Nat), (65 : Nat), (66 : Nat), (150 : Nat))]) ∈ lw_all := lw_g (lw_at lw_m13 26 rfl) rfl
theorem q3414 : (Jvm.Cond.methodLinkNest "LibraryDesk" (513 : Nat) ({ cls := "LibraryDesk$Matche\x72", name := "replace", desc := "(LLibraryDesk$PatternThing;LLibraryDesk$TextThing;[BI)I" } : Jvm.MethodName) "LibraryDesk") ∈ lw_tbl := lw_at lw_m13 27 rfl
theorem q3441 : (Jvm.Cond.instanceMethod ({ cls := "LibraryDesk", name := "form", desc := "(I)I" } : Jvm.MethodName)) ∈ lw_all := lw_g (lw_at lw_m13 54 rfl) rfl
theorem q3442 : (Jvm.Cond.selects "LibraryDesk" ({ cls := "LibraryDesk", name := "form", desc := "(I)I" } : Jvm.MethodName) ({ cls := "LibraryDesk", name := "form", desc := "(I)I" } : Jvm.MethodName)) ∈ lw_all := lw_g (lw_at lw_m13 55 rfl) rfl
theorem q3443 : (Jvm.Cond.codeWith ({ cls := "LibraryDesk", name := "form", desc := "(I)I" } : Jvm.MethodName) prog_1_method_52_code (5 : Nat) (Option.some Jvm.ClassFile.FieldType.int) [((34 : Nat), (41 : Nat), (44 : Nat), (150 : Nat))]) ∈ lw_all := lw_g (lw_at lw_m13 56 rfl) rfl
theorem q3444 : (Jvm.Cond.methodLinkNest "LibraryDesk" (523 : Nat) ({ cls := "LibraryDesk$Forme\x72", name := "check", desc := "()V" } : Jvm.MethodName) "LibraryDesk") ∈ lw_tbl := lw_at lw_m13 57 rfl
theorem q3477 : (Jvm.Cond.methodLinkNest "LibraryDesk" (524 : Nat) ({ cls := "LibraryDesk$Out", name := "clea\x72", desc := "()V" } : Jvm.MethodName) "LibraryDesk") ∈ lw_tbl := lw_at lw_m13 90 rfl
theorem q3478 : (Jvm.Cond.methodLink "LibraryDesk" (525 : Nat) ({ cls := "LibraryDesk", name := "fill", desc := "(LLibraryDesk$Places;I)V" } : Jvm.MethodName)) ∈ lw_all := lw_g (lw_at lw_m13 91 rfl) rfl
theorem q3479 : (Jvm.Cond.privateMethod ({ cls := "LibraryDesk", name := "fill", desc := "(LLibraryDesk$Places;I)V" } : Jvm.MethodName)) ∈ lw_tbl := lw_at lw_m13 92 rfl
theorem q3480 : (Jvm.Cond.instanceMethod ({ cls := "LibraryDesk", name := "fill", desc := "(LLibraryDesk$Places;I)V" } : Jvm.MethodName)) ∈ lw_all := lw_g (lw_at lw_m13 93 rfl) rfl
theorem q3481 : (Jvm.Cond.code ({ cls := "LibraryDesk", name := "fill", desc := "(LLibraryDesk$Places;I)V" } : Jvm.MethodName) prog_1_method_53_code (5 : Nat) (Option.none : Option Jvm.ClassFile.FieldType)) ∈ lw_all := lw_g (lw_at lw_m13 94 rfl) rfl
theorem q3482 : (Jvm.Cond.methodLinkNest "LibraryDesk" (539 : Nat) ({ cls := "LibraryDesk$Out", name := "add", desc := "(I)V" } : Jvm.MethodName) "LibraryDesk") ∈ lw_tbl := lw_at lw_m13 95 rfl
theorem q3483 : (Jvm.Cond.methodLinkNest "LibraryDesk" (542 : Nat) ({ cls := "LibraryDesk$Forme\x72", name := "field", desc := "()V" } : Jvm.MethodName) "LibraryDesk") ∈ lw_tbl := lw_at lw_m13 96 rfl
theorem q3484 : (Jvm.Cond.methodLinkNest "LibraryDesk" (548 : Nat) ({ cls := "LibraryDesk$Forme\x72", name := "text", desc := "(LLibraryDesk$TextThing;LLibraryDesk$Out;)V" } : Jvm.MethodName) "LibraryDesk") ∈ lw_tbl := lw_at lw_m13 97 rfl
theorem q3502 : (Jvm.Cond.methodLinkNest "LibraryDesk" (551 : Nat) ({ cls := "LibraryDesk$Forme\x72", name := "value", desc := "(ILLibraryDesk$Out;)V" } : Jvm.MethodName) "LibraryDesk") ∈ lw_tbl := lw_at lw_m13 115 rfl
theorem q3569 : (Jvm.Cond.methodLinkNest "LibraryDesk" (529 : Nat) ({ cls := "LibraryDesk$Out", name := "set", desc := "(LLibraryDesk$Out;)V" } : Jvm.MethodName) "LibraryDesk") ∈ lw_tbl := lw_at lw_m13 182 rfl
theorem q3578 : (Jvm.Cond.instanceMethod ({ cls := "LibraryDesk", name := "set", desc := "(IJ)I" } : Jvm.MethodName)) ∈ lw_all := lw_g (lw_at lw_m13 191 rfl) rfl
theorem q3579 : (Jvm.Cond.selects "LibraryDesk" ({ cls := "LibraryDesk", name := "set", desc := "(IJ)I" } : Jvm.MethodName) ({ cls := "LibraryDesk", name := "set", desc := "(IJ)I" } : Jvm.MethodName)) ∈ lw_all := lw_g (lw_at lw_m13 192 rfl) rfl
theorem q3580 : (Jvm.Cond.code ({ cls := "LibraryDesk", name := "set", desc := "(IJ)I" } : Jvm.MethodName) prog_1_method_54_code (5 : Nat) (Option.some Jvm.ClassFile.FieldType.int)) ∈ lw_all := lw_g (lw_at lw_m13 193 rfl) rfl
theorem q3581 : (Jvm.Cond.methodLinkNest "LibraryDesk" (554 : Nat) ({ cls := "LibraryDesk$Big", name := "set", desc := "(J)V" } : Jvm.MethodName) "LibraryDesk") ∈ lw_tbl := lw_at lw_m13 194 rfl
theorem q3585 : (Jvm.Cond.methodLinkNest "LibraryDesk" (557 : Nat) ({ cls := "LibraryDesk$Big", name := "sign", desc := "()I" } : Jvm.MethodName) "LibraryDesk") ∈ lw_tbl := lw_at lw_m13 198 rfl
theorem q3607 : (Jvm.Cond.instanceMethod ({ cls := "LibraryDesk", name := "whole", desc := "(IIII)I" } : Jvm.MethodName)) ∈ lw_all := lw_g (lw_at lw_m13 220 rfl) rfl
theorem q3608 : (Jvm.Cond.selects "LibraryDesk" ({ cls := "LibraryDesk", name := "whole", desc := "(IIII)I" } : Jvm.MethodName) ({ cls := "LibraryDesk", name := "whole", desc := "(IIII)I" } : Jvm.MethodName)) ∈ lw_all := lw_g (lw_at lw_m13 221 rfl) rfl
theorem q3609 : (Jvm.Cond.code ({ cls := "LibraryDesk", name := "whole", desc := "(IIII)I" } : Jvm.MethodName) prog_1_method_55_code (9 : Nat) (Option.some Jvm.ClassFile.FieldType.int)) ∈ lw_all := lw_g (lw_at lw_m13 222 rfl) rfl
theorem q3610 : (Jvm.Cond.methodLinkNest "LibraryDesk" (560 : Nat) ({ cls := "LibraryDesk$Reckone\x72", name := "whole", desc := "(ILLibraryDesk$Big;LLibraryDesk$Big;LLibraryDesk$Big;)V" } : Jvm.MethodName) "LibraryDesk") ∈ lw_tbl := lw_at lw_m13 223 rfl
theorem q3647 : (Jvm.Cond.static ({ cls := "LibraryDesk", name := "sound", desc := "(Z)V" } : Jvm.MethodName)) ∈ lw_all := lw_g (lw_at lw_m14 20 rfl) rfl
theorem q3648 : (Jvm.Cond.code ({ cls := "LibraryDesk", name := "sound", desc := "(Z)V" } : Jvm.MethodName) prog_1_method_7_code (1 : Nat) (Option.none : Option Jvm.ClassFile.FieldType)) ∈ lw_all := lw_g (lw_at lw_m14 21 rfl) rfl
theorem q3649 : (Jvm.Cond.classLink "LibraryDesk" (22 : Nat) "java/lang/ArithmeticException") ∈ lw_all := lw_g (lw_at lw_m14 22 rfl) rfl
theorem q3650 : (Jvm.Cond.methodLink "LibraryDesk" (24 : Nat) ({ cls := "java/lang/ArithmeticException", name := "<init>", desc := "()V" } : Jvm.MethodName)) ∈ lw_all := lw_g (lw_at lw_m14 23 rfl) rfl
theorem q3745 : (Jvm.Cond.instanceMethod ({ cls := "LibraryDesk", name := "decimal", desc := "(IIIII)I" } : Jvm.MethodName)) ∈ lw_all := lw_g (lw_at lw_m14 118 rfl) rfl
theorem q3746 : (Jvm.Cond.selects "LibraryDesk" ({ cls := "LibraryDesk", name := "decimal", desc := "(IIIII)I" } : Jvm.MethodName) ({ cls := "LibraryDesk", name := "decimal", desc := "(IIIII)I" } : Jvm.MethodName)) ∈ lw_all := lw_g (lw_at lw_m14 119 rfl) rfl
theorem q3747 : (Jvm.Cond.code ({ cls := "LibraryDesk", name := "decimal", desc := "(IIIII)I" } : Jvm.MethodName) prog_1_method_56_code (10 : Nat) (Option.some Jvm.ClassFile.FieldType.int)) ∈ lw_all := lw_g (lw_at lw_m14 120 rfl) rfl
theorem q3748 : (Jvm.Cond.methodLinkNest "LibraryDesk" (564 : Nat) ({ cls := "LibraryDesk$Decimals", name := "reckon", desc := "(LLibraryDesk$DecimalThing;ILLibraryDesk$DecimalThing;LLibraryDesk$DecimalThing;I)V" } : Jvm.MethodName) "LibraryDesk") ∈ lw_tbl := lw_at lw_m14 121 rfl
theorem q3815 : (Jvm.Cond.instanceMethod ({ cls := "LibraryDesk", name := "tell", desc := "(II)J" } : Jvm.MethodName)) ∈ lw_all := lw_g (lw_at lw_m14 188 rfl) rfl
theorem q3816 : (Jvm.Cond.selects "LibraryDesk" ({ cls := "LibraryDesk", name := "tell", desc := "(II)J" } : Jvm.MethodName) ({ cls := "LibraryDesk", name := "tell", desc := "(II)J" } : Jvm.MethodName)) ∈ lw_all := lw_g (lw_at lw_m14 189 rfl) rfl
theorem q3817 : (Jvm.Cond.code ({ cls := "LibraryDesk", name := "tell", desc := "(II)J" } : Jvm.MethodName) prog_1_method_60_code (6 : Nat) (Option.some Jvm.ClassFile.FieldType.long)) ∈ lw_all := lw_g (lw_at lw_m14 190 rfl) rfl
theorem q3818 : (Jvm.Cond.methodLink "LibraryDesk" (588 : Nat) ({ cls := "LibraryDesk", name := "bitsOf", desc := "(LLibraryDesk$Big;)I" } : Jvm.MethodName)) ∈ lw_all := lw_g (lw_at lw_m14 191 rfl) rfl
theorem q3819 : (Jvm.Cond.privateMethod ({ cls := "LibraryDesk", name := "bitsOf", desc := "(LLibraryDesk$Big;)I" } : Jvm.MethodName)) ∈ lw_tbl := lw_at lw_m14 192 rfl
theorem q3820 : (Jvm.Cond.instanceMethod ({ cls := "LibraryDesk", name := "bitsOf", desc := "(LLibraryDesk$Big;)I" } : Jvm.MethodName)) ∈ lw_all := lw_g (lw_at lw_m14 193 rfl) rfl
theorem q3821 : (Jvm.Cond.code ({ cls := "LibraryDesk", name := "bitsOf", desc := "(LLibraryDesk$Big;)I" } : Jvm.MethodName) prog_1_method_58_code (2 : Nat) (Option.some Jvm.ClassFile.FieldType.int)) ∈ lw_all := lw_g (lw_at lw_m14 194 rfl) rfl
theorem q3822 : (Jvm.Cond.methodLinkNest "LibraryDesk" (578 : Nat) ({ cls := "LibraryDesk$Big", name := "length", desc := "()I" } : Jvm.MethodName) "LibraryDesk") ∈ lw_tbl := lw_at lw_m14 195 rfl
theorem q3823 : (Jvm.Cond.methodLink "LibraryDesk" (580 : Nat) ({ cls := "LibraryDesk", name := "zeros", desc := "(LLibraryDesk$Big;)I" } : Jvm.MethodName)) ∈ lw_all := lw_g (lw_at lw_m14 196 rfl) rfl
theorem q3824 : (Jvm.Cond.static ({ cls := "LibraryDesk", name := "zeros", desc := "(LLibraryDesk$Big;)I" } : Jvm.MethodName)) ∈ lw_all := lw_g (lw_at lw_m14 197 rfl) rfl
theorem q3825 : (Jvm.Cond.code ({ cls := "LibraryDesk", name := "zeros", desc := "(LLibraryDesk$Big;)I" } : Jvm.MethodName) prog_1_method_57_code (2 : Nat) (Option.some Jvm.ClassFile.FieldType.int)) ∈ lw_all := lw_g (lw_at lw_m14 198 rfl) rfl
theorem q3826 : (Jvm.Cond.methodLinkNest "LibraryDesk" (568 : Nat) ({ cls := "LibraryDesk$Big", name := "isZero", desc := "()Z" } : Jvm.MethodName) "LibraryDesk") ∈ lw_tbl := lw_at lw_m14 199 rfl
theorem q3827 : (Jvm.Cond.methodLinkNest "LibraryDesk" (572 : Nat) ({ cls := "LibraryDesk$Big", name := "bit", desc := "(I)Z" } : Jvm.MethodName) "LibraryDesk") ∈ lw_tbl := lw_at lw_m14 200 rfl
theorem q3828 : (Jvm.Cond.methodLinkNest "LibraryDesk" (591 : Nat) ({ cls := "LibraryDesk$Big", name := "endless", desc := "(LLibraryDesk$Big;I)I" } : Jvm.MethodName) "LibraryDesk") ∈ lw_tbl := lw_at lw_m14 201 rfl
theorem q3829 : (Jvm.Cond.constantLong "LibraryDesk" (595 : Nat) (4294967295 : Int64)) ∈ lw_all := lw_g (lw_at lw_m14 202 rfl) rfl
theorem q3830 : (Jvm.Cond.methodLinkNest "LibraryDesk" (597 : Nat) ({ cls := "LibraryDesk$Reckone\x72", name := "digits", desc := "(LLibraryDesk$Big;)I" } : Jvm.MethodName) "LibraryDesk") ∈ lw_tbl := lw_at lw_m14 203 rfl
theorem q3831 : (Jvm.Cond.methodLink "LibraryDesk" (600 : Nat) ({ cls := "LibraryDesk", name := "isPrime", desc := "(LLibraryDesk$Big;)I" } : Jvm.MethodName)) ∈ lw_all := lw_g (lw_at lw_m14 204 rfl) rfl
theorem q3832 : (Jvm.Cond.static ({ cls := "LibraryDesk", name := "isPrime", desc := "(LLibraryDesk$Big;)I" } : Jvm.MethodName)) ∈ lw_all := lw_g (lw_at lw_m14 205 rfl) rfl
theorem q3833 : (Jvm.Cond.code ({ cls := "LibraryDesk", name := "isPrime", desc := "(LLibraryDesk$Big;)I" } : Jvm.MethodName) prog_1_method_59_code (3 : Nat) (Option.some Jvm.ClassFile.FieldType.int)) ∈ lw_all := lw_g (lw_at lw_m14 206 rfl) rfl
theorem q3838 : (Jvm.Cond.instanceMethod ({ cls := "LibraryDesk", name := "orde\x72", desc := "(II)I" } : Jvm.MethodName)) ∈ lw_all := lw_g (lw_at lw_m14 211 rfl) rfl
theorem q3839 : (Jvm.Cond.selects "LibraryDesk" ({ cls := "LibraryDesk", name := "orde\x72", desc := "(II)I" } : Jvm.MethodName) ({ cls := "LibraryDesk", name := "orde\x72", desc := "(II)I" } : Jvm.MethodName)) ∈ lw_all := lw_g (lw_at lw_m14 212 rfl) rfl
theorem q3840 : (Jvm.Cond.code ({ cls := "LibraryDesk", name := "orde\x72", desc := "(II)I" } : Jvm.MethodName) prog_1_method_61_code (5 : Nat) (Option.some Jvm.ClassFile.FieldType.int)) ∈ lw_all := lw_g (lw_at lw_m14 213 rfl) rfl
theorem q3841 : (Jvm.Cond.methodLinkNest "LibraryDesk" (603 : Nat) ({ cls := "LibraryDesk$Big", name := "compare", desc := "(LLibraryDesk$Big;LLibraryDesk$Big;)I" } : Jvm.MethodName) "LibraryDesk") ∈ lw_tbl := lw_at lw_m14 214 rfl
theorem q3845 : (Jvm.Cond.methodLinkNest "LibraryDesk" (606 : Nat) ({ cls := "LibraryDesk$Decimals", name := "compare", desc := "(LLibraryDesk$DecimalThing;LLibraryDesk$DecimalThing;)I" } : Jvm.MethodName) "LibraryDesk") ∈ lw_tbl := lw_at lw_m14 218 rfl
theorem q3854 : (Jvm.Cond.instanceMethod ({ cls := "LibraryDesk", name := "read", desc := "(II)I" } : Jvm.MethodName)) ∈ lw_all := lw_g (lw_at lw_m14 227 rfl) rfl
theorem q3855 : (Jvm.Cond.selects "LibraryDesk" ({ cls := "LibraryDesk", name := "read", desc := "(II)I" } : Jvm.MethodName) ({ cls := "LibraryDesk", name := "read", desc := "(II)I" } : Jvm.MethodName)) ∈ lw_all := lw_g (lw_at lw_m14 228 rfl) rfl
theorem q3856 : (Jvm.Cond.codeWith ({ cls := "LibraryDesk", name := "read", desc := "(II)I" } : Jvm.MethodName) prog_1_method_62_code (7 : Nat) (Option.some Jvm.ClassFile.FieldType.int) [((95 : Nat), (128 : Nat), (131 : Nat), (150 : Nat))]) ∈ lw_all := lw_g (lw_at lw_m14 229 rfl) rfl
theorem q3857 : (Jvm.Cond.methodLinkNest "LibraryDesk" (609 : Nat) ({ cls := "LibraryDesk$Numerals", name := "readWhole", desc := "([BII)V" } : Jvm.MethodName) "LibraryDesk") ∈ lw_tbl := lw_at lw_m14 230 rfl
theorem q3869 : (Jvm.Cond.methodLinkNest "LibraryDesk" (613 : Nat) ({ cls := "LibraryDesk$Numerals", name := "readDecimal", desc := "([BI)V" } : Jvm.MethodName) "LibraryDesk") ∈ lw_tbl := lw_at lw_m15 2 rfl
theorem q3873 : (Jvm.Cond.methodLinkNest "LibraryDesk" (620 : Nat) ({ cls := "LibraryDesk$Reckone\x72", name := "check", desc := "(LLibraryDesk$Big;)V" } : Jvm.MethodName) "LibraryDesk") ∈ lw_tbl := lw_at lw_m15 6 rfl
theorem q3874 : (Jvm.Cond.methodLinkNest "LibraryDesk" (623 : Nat) ({ cls := "LibraryDesk$Big", name := "set", desc := "(LLibraryDesk$Big;)V" } : Jvm.MethodName) "LibraryDesk") ∈ lw_tbl := lw_at lw_m15 7 rfl
theorem q3879 : (Jvm.Cond.instanceMethod ({ cls := "LibraryDesk", name := "show", desc := "(II)I" } : Jvm.MethodName)) ∈ lw_all := lw_g (lw_at lw_m15 12 rfl) rfl
theorem q3880 : (Jvm.Cond.selects "LibraryDesk" ({ cls := "LibraryDesk", name := "show", desc := "(II)I" } : Jvm.MethodName) ({ cls := "LibraryDesk", name := "show", desc := "(II)I" } : Jvm.MethodName)) ∈ lw_all := lw_g (lw_at lw_m15 13 rfl) rfl
theorem q3881 : (Jvm.Cond.code ({ cls := "LibraryDesk", name := "show", desc := "(II)I" } : Jvm.MethodName) prog_1_method_63_code (4 : Nat) (Option.some Jvm.ClassFile.FieldType.int)) ∈ lw_all := lw_g (lw_at lw_m15 14 rfl) rfl
theorem q3882 : (Jvm.Cond.methodLinkNest "LibraryDesk" (626 : Nat) ({ cls := "LibraryDesk$Numerals", name := "showWhole", desc := "(LLibraryDesk$Big;ILLibraryDesk$Out;)V" } : Jvm.MethodName) "LibraryDesk") ∈ lw_tbl := lw_at lw_m15 15 rfl
theorem q3895 : (Jvm.Cond.methodLinkNest "LibraryDesk" (630 : Nat) ({ cls := "LibraryDesk$Numerals", name := "showDecimal", desc := "(LLibraryDesk$DecimalThing;LLibraryDesk$Out;)V" } : Jvm.MethodName) "LibraryDesk") ∈ lw_tbl := lw_at lw_m15 28 rfl
theorem q3903 : (Jvm.Cond.instanceMethod ({ cls := "LibraryDesk", name := "stream", desc := "()J" } : Jvm.MethodName)) ∈ lw_all := lw_g (lw_at lw_m15 36 rfl) rfl
theorem q3904 : (Jvm.Cond.selects "LibraryDesk" ({ cls := "LibraryDesk", name := "stream", desc := "()J" } : Jvm.MethodName) ({ cls := "LibraryDesk", name := "stream", desc := "()J" } : Jvm.MethodName)) ∈ lw_all := lw_g (lw_at lw_m15 37 rfl) rfl
theorem q3905 : (Jvm.Cond.codeWith ({ cls := "LibraryDesk", name := "stream", desc := "()J" } : Jvm.MethodName) prog_1_method_64_code (5 : Nat) (Option.some Jvm.ClassFile.FieldType.long) [((5 : Nat), (17 : Nat), (20 : Nat), (150 : Nat))]) ∈ lw_all := lw_g (lw_at lw_m15 38 rfl) rfl
theorem q3906 : (Jvm.Cond.methodLinkNest "LibraryDesk" (634 : Nat) ({ cls := "LibraryDesk$Streame\x72", name := "read", desc := "([BI)V" } : Jvm.MethodName) "LibraryDesk") ∈ lw_tbl := lw_at lw_m15 39 rfl
theorem q4025 : (Jvm.Cond.methodLinkNest "LibraryDesk" (652 : Nat) ({ cls := "LibraryDesk$Streame\x72", name := "begin", desc := "()V" } : Jvm.MethodName) "LibraryDesk") ∈ lw_tbl := lw_at lw_m15 158 rfl
theorem q4030 : (Jvm.Cond.methodLink "LibraryDesk" (653 : Nat) ({ cls := "LibraryDesk", name := "toList", desc := "()J" } : Jvm.MethodName)) ∈ lw_all := lw_g (lw_at lw_m15 163 rfl) rfl
theorem q4031 : (Jvm.Cond.privateMethod ({ cls := "LibraryDesk", name := "toList", desc := "()J" } : Jvm.MethodName)) ∈ lw_tbl := lw_at lw_m15 164 rfl
theorem q4032 : (Jvm.Cond.instanceMethod ({ cls := "LibraryDesk", name := "toList", desc := "()J" } : Jvm.MethodName)) ∈ lw_all := lw_g (lw_at lw_m15 165 rfl) rfl
theorem q4033 : (Jvm.Cond.code ({ cls := "LibraryDesk", name := "toList", desc := "()J" } : Jvm.MethodName) prog_1_method_65_code (4 : Nat) (Option.some Jvm.ClassFile.FieldType.long)) ∈ lw_all := lw_g (lw_at lw_m15 166 rfl) rfl
theorem q4034 : (Jvm.Cond.methodLinkNest "LibraryDesk" (669 : Nat) ({ cls := "LibraryDesk$Streame\x72", name := "fill", desc := "([I)I" } : Jvm.MethodName) "LibraryDesk") ∈ lw_tbl := lw_at lw_m15 167 rfl
theorem q4100 : (Jvm.Cond.methodLinkNest "LibraryDesk" (672 : Nat) ({ cls := "LibraryDesk$Rows", name := "open", desc := "(II)V" } : Jvm.MethodName) "LibraryDesk") ∈ lw_tbl := lw_at lw_m15 233 rfl
theorem q4101 : (Jvm.Cond.methodLink "LibraryDesk" (675 : Nat) ({ cls := "LibraryDesk$ListThing", name := "put", desc := "(II)V" } : Jvm.MethodName)) ∈ lw_all := lw_g (lw_at lw_m15 234 rfl) rfl
theorem q4105 : (Jvm.Cond.methodLink "LibraryDesk" (657 : Nat) ({ cls := "LibraryDesk", name := "toGroups", desc := "()J" } : Jvm.MethodName)) ∈ lw_all := lw_g (lw_at lw_m15 238 rfl) rfl
theorem q4106 : (Jvm.Cond.privateMethod ({ cls := "LibraryDesk", name := "toGroups", desc := "()J" } : Jvm.MethodName)) ∈ lw_tbl := lw_at lw_m15 239 rfl
theorem q4107 : (Jvm.Cond.instanceMethod ({ cls := "LibraryDesk", name := "toGroups", desc := "()J" } : Jvm.MethodName)) ∈ lw_all := lw_g (lw_at lw_m16 0 rfl) rfl
theorem q4108 : (Jvm.Cond.code ({ cls := "LibraryDesk", name := "toGroups", desc := "()J" } : Jvm.MethodName) prog_1_method_66_code (5 : Nat) (Option.some Jvm.ClassFile.FieldType.long)) ∈ lw_all := lw_g (lw_at lw_m16 1 rfl) rfl
theorem q4109 : (Jvm.Cond.methodLinkNest "LibraryDesk" (677 : Nat) ({ cls := "LibraryDesk$Streame\x72", name := "more", desc := "()Z" } : Jvm.MethodName) "LibraryDesk") ∈ lw_tbl := lw_at lw_m16 2 rfl
theorem q4110 : (Jvm.Cond.methodLink "LibraryDesk" (685 : Nat) ({ cls := "LibraryDesk", name := "mod", desc := "(II)I" } : Jvm.MethodName)) ∈ lw_all := lw_g (lw_at lw_m16 3 rfl) rfl
theorem q4111 : (Jvm.Cond.methodLink "LibraryDesk" (689 : Nat) ({ cls := "LibraryDesk$HashThing", name := "find", desc := "(I)I" } : Jvm.MethodName)) ∈ lw_all := lw_g (lw_at lw_m16 4 rfl) rfl
theorem q4112 : (Jvm.Cond.methodLink "LibraryDesk" (690 : Nat) ({ cls := "LibraryDesk$HashThing", name := "size", desc := "()I" } : Jvm.MethodName)) ∈ lw_all := lw_g (lw_at lw_m16 5 rfl) rfl
theorem q4113 : (Jvm.Cond.methodLink "LibraryDesk" (691 : Nat) ({ cls := "LibraryDesk", name := "sound", desc := "(Z)V" } : Jvm.MethodName)) ∈ lw_all := lw_g (lw_at lw_m16 6 rfl) rfl
theorem q4114 : (Jvm.Cond.methodLink "LibraryDesk" (694 : Nat) ({ cls := "LibraryDesk$HashThing", name := "more", desc := "(II)J" } : Jvm.MethodName)) ∈ lw_all := lw_g (lw_at lw_m16 7 rfl) rfl
theorem q4118 : (Jvm.Cond.methodLinkNest "LibraryDesk" (660 : Nat) ({ cls := "LibraryDesk$Streame\x72", name := "run", desc := "()J" } : Jvm.MethodName) "LibraryDesk") ∈ lw_tbl := lw_at lw_m16 11 rfl
theorem q4131 : (Jvm.Cond.instanceMethod ({ cls := "LibraryDesk", name := "thread", desc := "()I" } : Jvm.MethodName)) ∈ lw_all := lw_g (lw_at lw_m16 24 rfl) rfl
theorem q4132 : (Jvm.Cond.selects "LibraryDesk" ({ cls := "LibraryDesk", name := "thread", desc := "()I" } : Jvm.MethodName) ({ cls := "LibraryDesk", name := "thread", desc := "()I" } : Jvm.MethodName)) ∈ lw_all := lw_g (lw_at lw_m16 25 rfl) rfl
theorem q4133 : (Jvm.Cond.codeWith ({ cls := "LibraryDesk", name := "thread", desc := "()I" } : Jvm.MethodName) prog_1_method_67_code (3 : Nat) (Option.some Jvm.ClassFile.FieldType.int) [((5 : Nat), (17 : Nat), (18 : Nat), (150 : Nat))]) ∈ lw_all := lw_g (lw_at lw_m16 26 rfl) rfl
theorem q4134 : (Jvm.Cond.methodLinkNest "LibraryDesk" (695 : Nat) ({ cls := "LibraryDesk$Threads", name := "thread", desc := "([BI)I" } : Jvm.MethodName) "LibraryDesk") ∈ lw_tbl := lw_at lw_m16 27 rfl
theorem q4194 : (Jvm.Cond.instanceMethod ({ cls := "LibraryDesk", name := "step", desc := "(I)I" } : Jvm.MethodName)) ∈ lw_all := lw_g (lw_at lw_m16 87 rfl) rfl
theorem q4195 : (Jvm.Cond.selects "LibraryDesk" ({ cls := "LibraryDesk", name := "step", desc := "(I)I" } : Jvm.MethodName) ({ cls := "LibraryDesk", name := "step", desc := "(I)I" } : Jvm.MethodName)) ∈ lw_all := lw_g (lw_at lw_m16 88 rfl) rfl
theorem q4196 : (Jvm.Cond.code ({ cls := "LibraryDesk", name := "step", desc := "(I)I" } : Jvm.MethodName) prog_1_method_68_code (2 : Nat) (Option.some Jvm.ClassFile.FieldType.int)) ∈ lw_all := lw_g (lw_at lw_m16 89 rfl) rfl
theorem q4197 : (Jvm.Cond.methodLinkNest "LibraryDesk" (699 : Nat) ({ cls := "LibraryDesk$Threads", name := "step", desc := "(I)I" } : Jvm.MethodName) "LibraryDesk") ∈ lw_tbl := lw_at lw_m16 90 rfl
theorem q4329 : (Jvm.Cond.instanceMethod ({ cls := "LibraryDesk", name := "run", desc := "(II)I" } : Jvm.MethodName)) ∈ lw_all := lw_g (lw_at lw_m16 222 rfl) rfl
theorem q4330 : (Jvm.Cond.selects "LibraryDesk" ({ cls := "LibraryDesk", name := "run", desc := "(II)I" } : Jvm.MethodName) ({ cls := "LibraryDesk", name := "run", desc := "(II)I" } : Jvm.MethodName)) ∈ lw_all := lw_g (lw_at lw_m16 223 rfl) rfl
theorem q4331 : (Jvm.Cond.code ({ cls := "LibraryDesk", name := "run", desc := "(II)I" } : Jvm.MethodName) prog_1_method_69_code (3 : Nat) (Option.some Jvm.ClassFile.FieldType.int)) ∈ lw_all := lw_g (lw_at lw_m16 224 rfl) rfl
theorem q4332 : (Jvm.Cond.methodLinkNest "LibraryDesk" (702 : Nat) ({ cls := "LibraryDesk$Threads", name := "run", desc := "(II)I" } : Jvm.MethodName) "LibraryDesk") ∈ lw_tbl := lw_at lw_m16 225 rfl
theorem q4343 : (Jvm.Cond.instanceMethod ({ cls := "LibraryDesk", name := "tick", desc := "(I)I" } : Jvm.MethodName)) ∈ lw_all := lw_g (lw_at lw_m16 236 rfl) rfl
theorem q4344 : (Jvm.Cond.selects "LibraryDesk" ({ cls := "LibraryDesk", name := "tick", desc := "(I)I" } : Jvm.MethodName) ({ cls := "LibraryDesk", name := "tick", desc := "(I)I" } : Jvm.MethodName)) ∈ lw_all := lw_g (lw_at lw_m16 237 rfl) rfl
theorem q4345 : (Jvm.Cond.code ({ cls := "LibraryDesk", name := "tick", desc := "(I)I" } : Jvm.MethodName) prog_1_method_70_code (2 : Nat) (Option.some Jvm.ClassFile.FieldType.int)) ∈ lw_all := lw_g (lw_at lw_m16 238 rfl) rfl
theorem q4346 : (Jvm.Cond.methodLinkNest "LibraryDesk" (704 : Nat) ({ cls := "LibraryDesk$Threads", name := "tick", desc := "(I)I" } : Jvm.MethodName) "LibraryDesk") ∈ lw_tbl := lw_at lw_m16 239 rfl
theorem q4354 : (Jvm.Cond.instanceMethod ({ cls := "LibraryDesk", name := "interrupt", desc := "(I)I" } : Jvm.MethodName)) ∈ lw_all := lw_g (lw_at lw_m17 7 rfl) rfl
theorem q4355 : (Jvm.Cond.selects "LibraryDesk" ({ cls := "LibraryDesk", name := "interrupt", desc := "(I)I" } : Jvm.MethodName) ({ cls := "LibraryDesk", name := "interrupt", desc := "(I)I" } : Jvm.MethodName)) ∈ lw_all := lw_g (lw_at lw_m17 8 rfl) rfl
theorem q4356 : (Jvm.Cond.code ({ cls := "LibraryDesk", name := "interrupt", desc := "(I)I" } : Jvm.MethodName) prog_1_method_71_code (2 : Nat) (Option.some Jvm.ClassFile.FieldType.int)) ∈ lw_all := lw_g (lw_at lw_m17 9 rfl) rfl
theorem q4357 : (Jvm.Cond.methodLinkNest "LibraryDesk" (707 : Nat) ({ cls := "LibraryDesk$Threads", name := "interrupt", desc := "(I)I" } : Jvm.MethodName) "LibraryDesk") ∈ lw_tbl := lw_at lw_m17 10 rfl
theorem q4365 : (Jvm.Cond.instanceMethod ({ cls := "LibraryDesk", name := "look", desc := "(II)J" } : Jvm.MethodName)) ∈ lw_all := lw_g (lw_at lw_m17 18 rfl) rfl
theorem q4366 : (Jvm.Cond.selects "LibraryDesk" ({ cls := "LibraryDesk", name := "look", desc := "(II)J" } : Jvm.MethodName) ({ cls := "LibraryDesk", name := "look", desc := "(II)J" } : Jvm.MethodName)) ∈ lw_all := lw_g (lw_at lw_m17 19 rfl) rfl
theorem q4367 : (Jvm.Cond.code ({ cls := "LibraryDesk", name := "look", desc := "(II)J" } : Jvm.MethodName) prog_1_method_72_code (3 : Nat) (Option.some Jvm.ClassFile.FieldType.long)) ∈ lw_all := lw_g (lw_at lw_m17 20 rfl) rfl
theorem q4368 : (Jvm.Cond.methodLinkNest "LibraryDesk" (710 : Nat) ({ cls := "LibraryDesk$Threads", name := "look", desc := "(II)J" } : Jvm.MethodName) "LibraryDesk") ∈ lw_tbl := lw_at lw_m17 21 rfl
theorem q4377 : (Jvm.Cond.instanceMethod ({ cls := "LibraryDesk", name := "sync", desc := "(II)J" } : Jvm.MethodName)) ∈ lw_all := lw_g (lw_at lw_m17 30 rfl) rfl
theorem q4378 : (Jvm.Cond.selects "LibraryDesk" ({ cls := "LibraryDesk", name := "sync", desc := "(II)J" } : Jvm.MethodName) ({ cls := "LibraryDesk", name := "sync", desc := "(II)J" } : Jvm.MethodName)) ∈ lw_all := lw_g (lw_at lw_m17 31 rfl) rfl
theorem q4379 : (Jvm.Cond.code ({ cls := "LibraryDesk", name := "sync", desc := "(II)J" } : Jvm.MethodName) prog_1_method_74_code (4 : Nat) (Option.some Jvm.ClassFile.FieldType.long)) ∈ lw_all := lw_g (lw_at lw_m17 32 rfl) rfl
theorem q4380 : (Jvm.Cond.methodLinkNest "LibraryDesk" (716 : Nat) ({ cls := "LibraryDesk$Threads", name := "sync", desc := "(LLibraryDesk$SyncThing;I)J" } : Jvm.MethodName) "LibraryDesk") ∈ lw_tbl := lw_at lw_m17 33 rfl
theorem q4388 : (Jvm.Cond.instanceMethod ({ cls := "LibraryDesk", name := "date", desc := "(III)I" } : Jvm.MethodName)) ∈ lw_all := lw_g (lw_at lw_m17 41 rfl) rfl
theorem q4389 : (Jvm.Cond.selects "LibraryDesk" ({ cls := "LibraryDesk", name := "date", desc := "(III)I" } : Jvm.MethodName) ({ cls := "LibraryDesk", name := "date", desc := "(III)I" } : Jvm.MethodName)) ∈ lw_all := lw_g (lw_at lw_m17 42 rfl) rfl
theorem q4390 : (Jvm.Cond.code ({ cls := "LibraryDesk", name := "date", desc := "(III)I" } : Jvm.MethodName) prog_1_method_75_code (4 : Nat) (Option.some Jvm.ClassFile.FieldType.int)) ∈ lw_all := lw_g (lw_at lw_m17 43 rfl) rfl
theorem q4391 : (Jvm.Cond.methodLinkNest "LibraryDesk" (722 : Nat) ({ cls := "LibraryDesk$Days", name := "ofMonth", desc := "(II)I" } : Jvm.MethodName) "LibraryDesk") ∈ lw_tbl := lw_at lw_m17 44 rfl
theorem q4398 : (Jvm.Cond.methodLinkNest "LibraryDesk" (725 : Nat) ({ cls := "LibraryDesk$Days", name := "day", desc := "(III)I" } : Jvm.MethodName) "LibraryDesk") ∈ lw_tbl := lw_at lw_m17 51 rfl
theorem q4412 : (Jvm.Cond.instanceMethod ({ cls := "LibraryDesk", name := "part", desc := "(II)I" } : Jvm.MethodName)) ∈ lw_all := lw_g (lw_at lw_m17 65 rfl) rfl
theorem q4413 : (Jvm.Cond.selects "LibraryDesk" ({ cls := "LibraryDesk", name := "part", desc := "(II)I" } : Jvm.MethodName) ({ cls := "LibraryDesk", name := "part", desc := "(II)I" } : Jvm.MethodName)) ∈ lw_all := lw_g (lw_at lw_m17 66 rfl) rfl
theorem q4414 : (Jvm.Cond.code ({ cls := "LibraryDesk", name := "part", desc := "(II)I" } : Jvm.MethodName) prog_1_method_76_code (3 : Nat) (Option.some Jvm.ClassFile.FieldType.int)) ∈ lw_all := lw_g (lw_at lw_m17 67 rfl) rfl
theorem q4415 : (Jvm.Cond.methodLinkNest "LibraryDesk" (729 : Nat) ({ cls := "LibraryDesk$Days", name := "isDay", desc := "(I)Z" } : Jvm.MethodName) "LibraryDesk") ∈ lw_tbl := lw_at lw_m17 68 rfl
theorem q4418 : (Jvm.Cond.methodLinkNest "LibraryDesk" (732 : Nat) ({ cls := "LibraryDesk$Days", name := "part", desc := "(II)I" } : Jvm.MethodName) "LibraryDesk") ∈ lw_tbl := lw_at lw_m17 71 rfl
theorem q4441 : (Jvm.Cond.instanceMethod ({ cls := "LibraryDesk", name := "plus", desc := "(III)I" } : Jvm.MethodName)) ∈ lw_all := lw_g (lw_at lw_m17 94 rfl) rfl
theorem q4442 : (Jvm.Cond.selects "LibraryDesk" ({ cls := "LibraryDesk", name := "plus", desc := "(III)I" } : Jvm.MethodName) ({ cls := "LibraryDesk", name := "plus", desc := "(III)I" } : Jvm.MethodName)) ∈ lw_all := lw_g (lw_at lw_m17 95 rfl) rfl
theorem q4443 : (Jvm.Cond.code ({ cls := "LibraryDesk", name := "plus", desc := "(III)I" } : Jvm.MethodName) prog_1_method_77_code (4 : Nat) (Option.some Jvm.ClassFile.FieldType.int)) ∈ lw_all := lw_g (lw_at lw_m17 96 rfl) rfl
theorem q4444 : (Jvm.Cond.methodLinkNest "LibraryDesk" (735 : Nat) ({ cls := "LibraryDesk$Days", name := "plus", desc := "(III)I" } : Jvm.MethodName) "LibraryDesk") ∈ lw_tbl := lw_at lw_m17 97 rfl
theorem q4456 : (Jvm.Cond.instanceMethod ({ cls := "LibraryDesk", name := "between", desc := "(III)I" } : Jvm.MethodName)) ∈ lw_all := lw_g (lw_at lw_m17 109 rfl) rfl
theorem q4457 : (Jvm.Cond.selects "LibraryDesk" ({ cls := "LibraryDesk", name := "between", desc := "(III)I" } : Jvm.MethodName) ({ cls := "LibraryDesk", name := "between", desc := "(III)I" } : Jvm.MethodName)) ∈ lw_all := lw_g (lw_at lw_m17 110 rfl) rfl
theorem q4458 : (Jvm.Cond.code ({ cls := "LibraryDesk", name := "between", desc := "(III)I" } : Jvm.MethodName) prog_1_method_78_code (4 : Nat) (Option.some Jvm.ClassFile.FieldType.int)) ∈ lw_all := lw_g (lw_at lw_m17 111 rfl) rfl
theorem q4459 : (Jvm.Cond.methodLinkNest "LibraryDesk" (738 : Nat) ({ cls := "LibraryDesk$Days", name := "between", desc := "(III)I" } : Jvm.MethodName) "LibraryDesk") ∈ lw_tbl := lw_at lw_m17 112 rfl
theorem q4468 : (Jvm.Cond.instanceMethod ({ cls := "LibraryDesk", name := "word", desc := "(I)J" } : Jvm.MethodName)) ∈ lw_all := lw_g (lw_at lw_m17 121 rfl) rfl
theorem q4469 : (Jvm.Cond.selects "LibraryDesk" ({ cls := "LibraryDesk", name := "word", desc := "(I)J" } : Jvm.MethodName) ({ cls := "LibraryDesk", name := "word", desc := "(I)J" } : Jvm.MethodName)) ∈ lw_all := lw_g (lw_at lw_m17 122 rfl) rfl
theorem q4470 : (Jvm.Cond.code ({ cls := "LibraryDesk", name := "word", desc := "(I)J" } : Jvm.MethodName) prog_1_method_79_code (2 : Nat) (Option.some Jvm.ClassFile.FieldType.long)) ∈ lw_all := lw_g (lw_at lw_m17 123 rfl) rfl
theorem q4471 : (Jvm.Cond.methodLinkNest "LibraryDesk" (741 : Nat) ({ cls := "LibraryDesk$Out", name := "word", desc := "(I)J" } : Jvm.MethodName) "LibraryDesk") ∈ lw_tbl := lw_at lw_m17 124 rfl
theorem q4480 : (Jvm.Cond.instanceMethod ({ cls := "LibraryDesk", name := "count", desc := "(I)J" } : Jvm.MethodName)) ∈ lw_all := lw_g (lw_at lw_m17 133 rfl) rfl
theorem q4481 : (Jvm.Cond.selects "LibraryDesk" ({ cls := "LibraryDesk", name := "count", desc := "(I)J" } : Jvm.MethodName) ({ cls := "LibraryDesk", name := "count", desc := "(I)J" } : Jvm.MethodName)) ∈ lw_all := lw_g (lw_at lw_m17 134 rfl) rfl
theorem q4482 : (Jvm.Cond.code ({ cls := "LibraryDesk", name := "count", desc := "(I)J" } : Jvm.MethodName) prog_1_method_80_code (4 : Nat) (Option.some Jvm.ClassFile.FieldType.long)) ∈ lw_all := lw_g (lw_at lw_m17 135 rfl) rfl
theorem q4483 : (Jvm.Cond.constantLong "LibraryDesk" (746 : Nat) (-1 : Int64)) ∈ lw_all := lw_g (lw_at lw_m17 136 rfl) rfl
theorem q6107 : (Jvm.Cond.castable "LibraryDesk" "java/lang/Object") ∈ lw_tbl := lw_at lw_m24 80 rfl
theorem in_X1 : ∀ w ∈ wsX10, w ∈ lw_all := lw_in wsX10 [1087, 1089, 1091, 1093, 1095, 1097, 1099, 1101, 1103, 1105, 1107, 1109, 1111, 1113, 1115, 1117, 1119, 1121, 1123, 1125, 1127] (by decide +kernel) (by decide +kernel)

/-! LibraryDesk$Out -/
set_option maxRecDepth 100000
def RX2 : String := "LibraryDesk$Out"
def TX2 : u_T := fun k => match k with
  | 0 => ("LibraryDesk$Out", "row", "[B", true)
  | _ => ("LibraryDesk$Out", "many", "I", false)
def tyX2 : Nat → FieldType := fun k => match k with
  | 0 => .array .byte
  | _ => .int
abbrev wsX20 : List Cond := u_ws RX2 TX2 2
theorem nmX2 : ∀ a, a < 2 → ∀ b, b < 2 → a ≠ b → (TX2 a).2.1 ≠ (TX2 b).2.1 := by decide +kernel
theorem tyX2_ok : ∀ k, k < 2 → parseFieldDescriptor (TX2 k).2.2.1 = some (tyX2 k) := by decide +kernel
abbrev cX2_init : ByteArray := prog_20_method_1_code
def yX2_init : MethodName := ⟨RX2, "<init>", "()V"⟩
def dkwX2_init_0 : List UInt8 := [42, 183, 0, 3, 42, 18, 9, 188, 8, 181, 0, 10, 177]
abbrev dktX2_init_0 : List UInt8 := dkwX2_init_0 ++ []
theorem dksX2_init_0 : cX2_init.data.toList.drop 0 = dktX2_init_0 := by decide +kernel
theorem dX2_init_0 : decode cX2_init 0 = .ok (.aload_n 0, 1) := dk_42 (dk_at dksX2_init_0 0 rfl rfl)
theorem dX2_init_1 : decode cX2_init 1 = .ok (.invokespecial 3, 3) := dk_183 0 3 (dk_at dksX2_init_0 1 rfl rfl)
theorem dX2_init_4 : decode cX2_init 4 = .ok (.aload_n 0, 1) := dk_42 (dk_at dksX2_init_0 4 rfl rfl)
theorem dX2_init_5 : decode cX2_init 5 = .ok (.ldc 9, 2) := dk_18 9 (dk_at dksX2_init_0 5 rfl rfl)
theorem dX2_init_7 : decode cX2_init 7 = .ok (.newarray .byte, 2) := dk_188_8 (dk_at dksX2_init_0 7 rfl rfl)
theorem dX2_init_9 : decode cX2_init 9 = .ok (.putfield 10, 3) := dk_181 0 10 (dk_at dksX2_init_0 9 rfl rfl)
theorem dX2_init_12 : decode cX2_init 12 = .ok (.return_, 1) := dk_177 (dk_at dksX2_init_0 12 rfl rfl)
abbrev cX2_clear : ByteArray := prog_20_method_2_code
def yX2_clear : MethodName := ⟨RX2, "clea\x72", "()V"⟩
def dkwX2_clear_0 : List UInt8 := [42, 3, 181, 0, 16, 177]
abbrev dktX2_clear_0 : List UInt8 := dkwX2_clear_0 ++ []
theorem dksX2_clear_0 : cX2_clear.data.toList.drop 0 = dktX2_clear_0 := by decide +kernel
theorem dX2_clear_0 : decode cX2_clear 0 = .ok (.aload_n 0, 1) := dk_42 (dk_at dksX2_clear_0 0 rfl rfl)
theorem dX2_clear_1 : decode cX2_clear 1 = .ok (.iconst 0, 1) := dk_3 (dk_at dksX2_clear_0 1 rfl rfl)
theorem dX2_clear_2 : decode cX2_clear 2 = .ok (.putfield 16, 3) := dk_181 0 16 (dk_at dksX2_clear_0 2 rfl rfl)
theorem dX2_clear_5 : decode cX2_clear 5 = .ok (.return_, 1) := dk_177 (dk_at dksX2_clear_0 5 rfl rfl)
abbrev cX2_add : ByteArray := prog_20_method_3_code
def yX2_add : MethodName := ⟨RX2, "add", "(I)V"⟩
def dkwX2_add_1 : List UInt8 := [180, 0, 16, 27, 145, 84, 42, 89, 180, 0, 16, 4, 96, 181, 0, 16, 177]
abbrev dktX2_add_1 : List UInt8 := dkwX2_add_1 ++ []
def dkwX2_add_0 : List UInt8 := [42, 180, 0, 16, 18, 9, 162, 0, 7, 4, 167, 0, 4, 3, 184, 0, 20, 42, 180, 0, 10, 42]
abbrev dktX2_add_0 : List UInt8 := dkwX2_add_0 ++ dktX2_add_1
theorem dksX2_add_0 : cX2_add.data.toList.drop 0 = dktX2_add_0 := by decide +kernel
theorem dksX2_add_1 : cX2_add.data.toList.drop 22 = dktX2_add_1 := dk_seg dksX2_add_0 22 rfl rfl
theorem dX2_add_0 : decode cX2_add 0 = .ok (.aload_n 0, 1) := dk_42 (dk_at dksX2_add_0 0 rfl rfl)
theorem dX2_add_1 : decode cX2_add 1 = .ok (.getfield 16, 3) := dk_180 0 16 (dk_at dksX2_add_0 1 rfl rfl)
theorem dX2_add_4 : decode cX2_add 4 = .ok (.ldc 9, 2) := dk_18 9 (dk_at dksX2_add_0 4 rfl rfl)
theorem dX2_add_6 : decode cX2_add 6 = .ok (.if_icmp .ge 7, 3) := dk_162 0 7 (dk_at dksX2_add_0 6 rfl rfl)
theorem dX2_add_9 : decode cX2_add 9 = .ok (.iconst 1, 1) := dk_4 (dk_at dksX2_add_0 9 rfl rfl)
theorem dX2_add_10 : decode cX2_add 10 = .ok (.goto 4, 3) := dk_167 0 4 (dk_at dksX2_add_0 10 rfl rfl)
theorem dX2_add_13 : decode cX2_add 13 = .ok (.iconst 0, 1) := dk_3 (dk_at dksX2_add_0 13 rfl rfl)
theorem dX2_add_14 : decode cX2_add 14 = .ok (.invokestatic 20, 3) := dk_184 0 20 (dk_at dksX2_add_0 14 rfl rfl)
theorem dX2_add_17 : decode cX2_add 17 = .ok (.aload_n 0, 1) := dk_42 (dk_at dksX2_add_0 17 rfl rfl)
theorem dX2_add_18 : decode cX2_add 18 = .ok (.getfield 10, 3) := dk_180 0 10 (dk_at dksX2_add_0 18 rfl rfl)
theorem dX2_add_21 : decode cX2_add 21 = .ok (.aload_n 0, 1) := dk_42 (dk_at dksX2_add_0 21 rfl rfl)
theorem dX2_add_22 : decode cX2_add 22 = .ok (.getfield 16, 3) := dk_180 0 16 (dk_at dksX2_add_1 0 rfl rfl)
theorem dX2_add_25 : decode cX2_add 25 = .ok (.iload_n 1, 1) := dk_27 (dk_at dksX2_add_1 3 rfl rfl)
theorem dX2_add_26 : decode cX2_add 26 = .ok (.i2b, 1) := dk_145 (dk_at dksX2_add_1 4 rfl rfl)
theorem dX2_add_27 : decode cX2_add 27 = .ok (.bastore, 1) := dk_84 (dk_at dksX2_add_1 5 rfl rfl)
theorem dX2_add_28 : decode cX2_add 28 = .ok (.aload_n 0, 1) := dk_42 (dk_at dksX2_add_1 6 rfl rfl)
theorem dX2_add_29 : decode cX2_add 29 = .ok (.dup, 1) := dk_89 (dk_at dksX2_add_1 7 rfl rfl)
theorem dX2_add_30 : decode cX2_add 30 = .ok (.getfield 16, 3) := dk_180 0 16 (dk_at dksX2_add_1 8 rfl rfl)
theorem dX2_add_33 : decode cX2_add 33 = .ok (.iconst 1, 1) := dk_4 (dk_at dksX2_add_1 11 rfl rfl)
theorem dX2_add_34 : decode cX2_add 34 = .ok (.iadd, 1) := dk_96 (dk_at dksX2_add_1 12 rfl rfl)
theorem dX2_add_35 : decode cX2_add 35 = .ok (.putfield 16, 3) := dk_181 0 16 (dk_at dksX2_add_1 13 rfl rfl)
theorem dX2_add_38 : decode cX2_add 38 = .ok (.return_, 1) := dk_177 (dk_at dksX2_add_1 16 rfl rfl)
abbrev cX2_set : ByteArray := prog_20_method_4_code
def yX2_set : MethodName := ⟨RX2, "set", "(LLibraryDesk$Out;)V"⟩
def dkwX2_set_1 : List UInt8 := [184, 0, 24, 177]
abbrev dktX2_set_1 : List UInt8 := dkwX2_set_1 ++ []
def dkwX2_set_0 : List UInt8 := [42, 43, 180, 0, 16, 181, 0, 16, 43, 180, 0, 10, 3, 42, 180, 0, 10, 3, 42, 180, 0, 16]
abbrev dktX2_set_0 : List UInt8 := dkwX2_set_0 ++ dktX2_set_1
theorem dksX2_set_0 : cX2_set.data.toList.drop 0 = dktX2_set_0 := by decide +kernel
theorem dksX2_set_1 : cX2_set.data.toList.drop 22 = dktX2_set_1 := dk_seg dksX2_set_0 22 rfl rfl
theorem dX2_set_0 : decode cX2_set 0 = .ok (.aload_n 0, 1) := dk_42 (dk_at dksX2_set_0 0 rfl rfl)
theorem dX2_set_1 : decode cX2_set 1 = .ok (.aload_n 1, 1) := dk_43 (dk_at dksX2_set_0 1 rfl rfl)
theorem dX2_set_2 : decode cX2_set 2 = .ok (.getfield 16, 3) := dk_180 0 16 (dk_at dksX2_set_0 2 rfl rfl)
theorem dX2_set_5 : decode cX2_set 5 = .ok (.putfield 16, 3) := dk_181 0 16 (dk_at dksX2_set_0 5 rfl rfl)
theorem dX2_set_8 : decode cX2_set 8 = .ok (.aload_n 1, 1) := dk_43 (dk_at dksX2_set_0 8 rfl rfl)
theorem dX2_set_9 : decode cX2_set 9 = .ok (.getfield 10, 3) := dk_180 0 10 (dk_at dksX2_set_0 9 rfl rfl)
theorem dX2_set_12 : decode cX2_set 12 = .ok (.iconst 0, 1) := dk_3 (dk_at dksX2_set_0 12 rfl rfl)
theorem dX2_set_13 : decode cX2_set 13 = .ok (.aload_n 0, 1) := dk_42 (dk_at dksX2_set_0 13 rfl rfl)
theorem dX2_set_14 : decode cX2_set 14 = .ok (.getfield 10, 3) := dk_180 0 10 (dk_at dksX2_set_0 14 rfl rfl)
theorem dX2_set_17 : decode cX2_set 17 = .ok (.iconst 0, 1) := dk_3 (dk_at dksX2_set_0 17 rfl rfl)
theorem dX2_set_18 : decode cX2_set 18 = .ok (.aload_n 0, 1) := dk_42 (dk_at dksX2_set_0 18 rfl rfl)
theorem dX2_set_19 : decode cX2_set 19 = .ok (.getfield 16, 3) := dk_180 0 16 (dk_at dksX2_set_0 19 rfl rfl)
theorem dX2_set_22 : decode cX2_set 22 = .ok (.invokestatic 24, 3) := dk_184 0 24 (dk_at dksX2_set_1 0 rfl rfl)
theorem dX2_set_25 : decode cX2_set 25 = .ok (.return_, 1) := dk_177 (dk_at dksX2_set_1 3 rfl rfl)
abbrev cX2_word : ByteArray := prog_20_method_5_code
def yX2_word : MethodName := ⟨RX2, "word", "(I)J"⟩
def dkwX2_word_3 : List UInt8 := [32, 173]
abbrev dktX2_word_3 : List UInt8 := dkwX2_word_3 ++ []
def dkwX2_word_2 : List UInt8 := [42, 180, 0, 10, 21, 4, 51, 133, 20, 0, 30, 127, 167, 0, 4, 9, 129, 65, 132, 4, 1, 167, 255, 213]
abbrev dktX2_word_2 : List UInt8 := dkwX2_word_2 ++ dktX2_word_3
def dkwX2_word_1 : List UInt8 := [54, 4, 21, 4, 27, 16, 8, 96, 162, 0, 40, 32, 16, 8, 121, 21, 4, 42, 180, 0, 16, 162, 0, 18]
abbrev dktX2_word_1 : List UInt8 := dkwX2_word_1 ++ dktX2_word_2
def dkwX2_word_0 : List UInt8 := [27, 155, 0, 15, 27, 42, 180, 0, 16, 162, 0, 7, 4, 167, 0, 4, 3, 184, 0, 20, 9, 65, 27]
abbrev dktX2_word_0 : List UInt8 := dkwX2_word_0 ++ dktX2_word_1
theorem dksX2_word_0 : cX2_word.data.toList.drop 0 = dktX2_word_0 := by decide +kernel
theorem dksX2_word_1 : cX2_word.data.toList.drop 23 = dktX2_word_1 := dk_seg dksX2_word_0 23 rfl rfl
theorem dksX2_word_2 : cX2_word.data.toList.drop 47 = dktX2_word_2 := dk_seg dksX2_word_1 24 rfl rfl
theorem dksX2_word_3 : cX2_word.data.toList.drop 71 = dktX2_word_3 := dk_seg dksX2_word_2 24 rfl rfl
theorem dX2_word_0 : decode cX2_word 0 = .ok (.iload_n 1, 1) := dk_27 (dk_at dksX2_word_0 0 rfl rfl)
theorem dX2_word_1 : decode cX2_word 1 = .ok (.ifCond .lt 15, 3) := dk_155 0 15 (dk_at dksX2_word_0 1 rfl rfl)
theorem dX2_word_4 : decode cX2_word 4 = .ok (.iload_n 1, 1) := dk_27 (dk_at dksX2_word_0 4 rfl rfl)
theorem dX2_word_5 : decode cX2_word 5 = .ok (.aload_n 0, 1) := dk_42 (dk_at dksX2_word_0 5 rfl rfl)
theorem dX2_word_6 : decode cX2_word 6 = .ok (.getfield 16, 3) := dk_180 0 16 (dk_at dksX2_word_0 6 rfl rfl)
theorem dX2_word_9 : decode cX2_word 9 = .ok (.if_icmp .ge 7, 3) := dk_162 0 7 (dk_at dksX2_word_0 9 rfl rfl)
theorem dX2_word_12 : decode cX2_word 12 = .ok (.iconst 1, 1) := dk_4 (dk_at dksX2_word_0 12 rfl rfl)
theorem dX2_word_13 : decode cX2_word 13 = .ok (.goto 4, 3) := dk_167 0 4 (dk_at dksX2_word_0 13 rfl rfl)
theorem dX2_word_16 : decode cX2_word 16 = .ok (.iconst 0, 1) := dk_3 (dk_at dksX2_word_0 16 rfl rfl)
theorem dX2_word_17 : decode cX2_word 17 = .ok (.invokestatic 20, 3) := dk_184 0 20 (dk_at dksX2_word_0 17 rfl rfl)
theorem dX2_word_20 : decode cX2_word 20 = .ok (.lconst 0, 1) := dk_9 (dk_at dksX2_word_0 20 rfl rfl)
theorem dX2_word_21 : decode cX2_word 21 = .ok (.lstore_n 2, 1) := dk_65 (dk_at dksX2_word_0 21 rfl rfl)
theorem dX2_word_22 : decode cX2_word 22 = .ok (.iload_n 1, 1) := dk_27 (dk_at dksX2_word_0 22 rfl rfl)
theorem dX2_word_23 : decode cX2_word 23 = .ok (.istore 4, 2) := dk_54 4 (dk_at dksX2_word_1 0 rfl rfl)
theorem dX2_word_25 : decode cX2_word 25 = .ok (.iload 4, 2) := dk_21 4 (dk_at dksX2_word_1 2 rfl rfl)
theorem dX2_word_27 : decode cX2_word 27 = .ok (.iload_n 1, 1) := dk_27 (dk_at dksX2_word_1 4 rfl rfl)
theorem dX2_word_28 : decode cX2_word 28 = .ok (.bipush 8, 2) := dk_16 8 (dk_at dksX2_word_1 5 rfl rfl)
theorem dX2_word_30 : decode cX2_word 30 = .ok (.iadd, 1) := dk_96 (dk_at dksX2_word_1 7 rfl rfl)
theorem dX2_word_31 : decode cX2_word 31 = .ok (.if_icmp .ge 40, 3) := dk_162 0 40 (dk_at dksX2_word_1 8 rfl rfl)
theorem dX2_word_34 : decode cX2_word 34 = .ok (.lload_n 2, 1) := dk_32 (dk_at dksX2_word_1 11 rfl rfl)
theorem dX2_word_35 : decode cX2_word 35 = .ok (.bipush 8, 2) := dk_16 8 (dk_at dksX2_word_1 12 rfl rfl)
theorem dX2_word_37 : decode cX2_word 37 = .ok (.lshl, 1) := dk_121 (dk_at dksX2_word_1 14 rfl rfl)
theorem dX2_word_38 : decode cX2_word 38 = .ok (.iload 4, 2) := dk_21 4 (dk_at dksX2_word_1 15 rfl rfl)
theorem dX2_word_40 : decode cX2_word 40 = .ok (.aload_n 0, 1) := dk_42 (dk_at dksX2_word_1 17 rfl rfl)
theorem dX2_word_41 : decode cX2_word 41 = .ok (.getfield 16, 3) := dk_180 0 16 (dk_at dksX2_word_1 18 rfl rfl)
theorem dX2_word_44 : decode cX2_word 44 = .ok (.if_icmp .ge 18, 3) := dk_162 0 18 (dk_at dksX2_word_1 21 rfl rfl)
theorem dX2_word_47 : decode cX2_word 47 = .ok (.aload_n 0, 1) := dk_42 (dk_at dksX2_word_2 0 rfl rfl)
theorem dX2_word_48 : decode cX2_word 48 = .ok (.getfield 10, 3) := dk_180 0 10 (dk_at dksX2_word_2 1 rfl rfl)
theorem dX2_word_51 : decode cX2_word 51 = .ok (.iload 4, 2) := dk_21 4 (dk_at dksX2_word_2 4 rfl rfl)
theorem dX2_word_53 : decode cX2_word 53 = .ok (.baload, 1) := dk_51 (dk_at dksX2_word_2 6 rfl rfl)
theorem dX2_word_54 : decode cX2_word 54 = .ok (.i2l, 1) := dk_133 (dk_at dksX2_word_2 7 rfl rfl)
theorem dX2_word_55 : decode cX2_word 55 = .ok (.ldc2_w 30, 3) := dk_20 0 30 (dk_at dksX2_word_2 8 rfl rfl)
theorem dX2_word_58 : decode cX2_word 58 = .ok (.land, 1) := dk_127 (dk_at dksX2_word_2 11 rfl rfl)
theorem dX2_word_59 : decode cX2_word 59 = .ok (.goto 4, 3) := dk_167 0 4 (dk_at dksX2_word_2 12 rfl rfl)
theorem dX2_word_62 : decode cX2_word 62 = .ok (.lconst 0, 1) := dk_9 (dk_at dksX2_word_2 15 rfl rfl)
theorem dX2_word_63 : decode cX2_word 63 = .ok (.lor, 1) := dk_129 (dk_at dksX2_word_2 16 rfl rfl)
theorem dX2_word_64 : decode cX2_word 64 = .ok (.lstore_n 2, 1) := dk_65 (dk_at dksX2_word_2 17 rfl rfl)
theorem dX2_word_65 : decode cX2_word 65 = .ok (.iinc 4 1, 3) := dk_132 4 1 (dk_at dksX2_word_2 18 rfl rfl)
theorem dX2_word_68 : decode cX2_word 68 = .ok (.goto (-43), 3) := dk_167 255 213 (dk_at dksX2_word_2 21 rfl rfl)
theorem dX2_word_71 : decode cX2_word 71 = .ok (.lload_n 2, 1) := dk_32 (dk_at dksX2_word_3 0 rfl rfl)
theorem dX2_word_72 : decode cX2_word 72 = .ok (.lreturn, 1) := dk_173 (dk_at dksX2_word_3 1 rfl rfl)
theorem q509 : (Jvm.Cond.initialized "LibraryDesk$Out") ∈ lw_all := lw_g (lw_at lw_m1 2 rfl) rfl
theorem q579 : (Jvm.Cond.instantiable "LibraryDesk$Out" (2 : Nat)) ∈ lw_all := lw_g (lw_at lw_m1 72 rfl) rfl
theorem q581 : (Jvm.Cond.instanceMethod ({ cls := "LibraryDesk$Out", name := "<init>", desc := "()V" } : Jvm.MethodName)) ∈ lw_all := lw_g (lw_at lw_m1 74 rfl) rfl
theorem q582 : (Jvm.Cond.code ({ cls := "LibraryDesk$Out", name := "<init>", desc := "()V" } : Jvm.MethodName) prog_20_method_1_code (1 : Nat) (Option.none : Option Jvm.ClassFile.FieldType)) ∈ lw_all := lw_g (lw_at lw_m1 75 rfl) rfl
theorem q583 : (Jvm.Cond.methodLink "LibraryDesk$Out" (3 : Nat) ({ cls := "java/lang/Object", name := "<init>", desc := "()V" } : Jvm.MethodName)) ∈ lw_all := lw_g (lw_at lw_m1 76 rfl) rfl
theorem q584 : (Jvm.Cond.constant "LibraryDesk$Out" (9 : Nat) (65536 : Int32)) ∈ lw_all := lw_g (lw_at lw_m1 77 rfl) rfl
theorem q585 : (Jvm.Cond.fieldLink "LibraryDesk$Out" (10 : Nat) "LibraryDesk$Out" "row" "[B") ∈ lw_all := lw_g (lw_at lw_m1 78 rfl) rfl
theorem q586 : (Jvm.Cond.fieldLink "LibraryDesk$Out" (16 : Nat) "LibraryDesk$Out" "many" "I") ∈ lw_all := lw_g (lw_at lw_m1 79 rfl) rfl
theorem q589 : (Jvm.Cond.laysFinal "LibraryDesk$Out" "LibraryDesk$Out" "row" "[B") ∈ lw_all := lw_g (lw_at lw_m1 82 rfl) rfl
theorem q590 : (Jvm.Cond.soleField "LibraryDesk$Out" "row") ∈ lw_all := lw_g (lw_at lw_m1 83 rfl) rfl
theorem q591 : (Jvm.Cond.lays "LibraryDesk$Out" "LibraryDesk$Out" "many" "I") ∈ lw_all := lw_g (lw_at lw_m1 84 rfl) rfl
theorem q592 : (Jvm.Cond.soleField "LibraryDesk$Out" "many") ∈ lw_all := lw_g (lw_at lw_m1 85 rfl) rfl
theorem q593 : (Jvm.Cond.superclass "LibraryDesk$Out" "java/lang/Object") ∈ lw_all := lw_g (lw_at lw_m1 86 rfl) rfl
theorem q3137 : (Jvm.Cond.privateMethod ({ cls := "LibraryDesk$Out", name := "clea\x72", desc := "()V" } : Jvm.MethodName)) ∈ lw_tbl := lw_at lw_m11 230 rfl
theorem q3138 : (Jvm.Cond.instanceMethod ({ cls := "LibraryDesk$Out", name := "clea\x72", desc := "()V" } : Jvm.MethodName)) ∈ lw_all := lw_g (lw_at lw_m11 231 rfl) rfl
theorem q3139 : (Jvm.Cond.code ({ cls := "LibraryDesk$Out", name := "clea\x72", desc := "()V" } : Jvm.MethodName) prog_20_method_2_code (1 : Nat) (Option.none : Option Jvm.ClassFile.FieldType)) ∈ lw_all := lw_g (lw_at lw_m11 232 rfl) rfl
theorem q3148 : (Jvm.Cond.privateMethod ({ cls := "LibraryDesk$Out", name := "add", desc := "(I)V" } : Jvm.MethodName)) ∈ lw_tbl := lw_at lw_m12 1 rfl
theorem q3149 : (Jvm.Cond.instanceMethod ({ cls := "LibraryDesk$Out", name := "add", desc := "(I)V" } : Jvm.MethodName)) ∈ lw_all := lw_g (lw_at lw_m12 2 rfl) rfl
theorem q3150 : (Jvm.Cond.code ({ cls := "LibraryDesk$Out", name := "add", desc := "(I)V" } : Jvm.MethodName) prog_20_method_3_code (2 : Nat) (Option.none : Option Jvm.ClassFile.FieldType)) ∈ lw_all := lw_g (lw_at lw_m12 3 rfl) rfl
theorem q3151 : (Jvm.Cond.methodLinkNest "LibraryDesk$Out" (20 : Nat) ({ cls := "LibraryDesk", name := "within", desc := "(Z)V" } : Jvm.MethodName) "LibraryDesk") ∈ lw_tbl := lw_at lw_m12 4 rfl
theorem q3570 : (Jvm.Cond.privateMethod ({ cls := "LibraryDesk$Out", name := "set", desc := "(LLibraryDesk$Out;)V" } : Jvm.MethodName)) ∈ lw_tbl := lw_at lw_m13 183 rfl
theorem q3571 : (Jvm.Cond.instanceMethod ({ cls := "LibraryDesk$Out", name := "set", desc := "(LLibraryDesk$Out;)V" } : Jvm.MethodName)) ∈ lw_all := lw_g (lw_at lw_m13 184 rfl) rfl
theorem q3572 : (Jvm.Cond.code ({ cls := "LibraryDesk$Out", name := "set", desc := "(LLibraryDesk$Out;)V" } : Jvm.MethodName) prog_20_method_4_code (2 : Nat) (Option.none : Option Jvm.ClassFile.FieldType)) ∈ lw_all := lw_g (lw_at lw_m13 185 rfl) rfl
theorem q3573 : (Jvm.Cond.methodLink "LibraryDesk$Out" (24 : Nat) ({ cls := "java/lang/System", name := "arraycopy", desc := "(Ljava/lang/Object;ILjava/lang/Object;II)V" } : Jvm.MethodName)) ∈ lw_all := lw_g (lw_at lw_m13 186 rfl) rfl
theorem q4472 : (Jvm.Cond.privateMethod ({ cls := "LibraryDesk$Out", name := "word", desc := "(I)J" } : Jvm.MethodName)) ∈ lw_tbl := lw_at lw_m17 125 rfl
theorem q4473 : (Jvm.Cond.instanceMethod ({ cls := "LibraryDesk$Out", name := "word", desc := "(I)J" } : Jvm.MethodName)) ∈ lw_all := lw_g (lw_at lw_m17 126 rfl) rfl
theorem q4474 : (Jvm.Cond.code ({ cls := "LibraryDesk$Out", name := "word", desc := "(I)J" } : Jvm.MethodName) prog_20_method_5_code (5 : Nat) (Option.some Jvm.ClassFile.FieldType.long)) ∈ lw_all := lw_g (lw_at lw_m17 127 rfl) rfl
theorem q4475 : (Jvm.Cond.constantLong "LibraryDesk$Out" (30 : Nat) (255 : Int64)) ∈ lw_all := lw_g (lw_at lw_m17 128 rfl) rfl
theorem q6108 : (Jvm.Cond.castable "LibraryDesk$Out" "java/lang/Object") ∈ lw_tbl := lw_at lw_m24 81 rfl
theorem in_X2 : ∀ w ∈ wsX20, w ∈ lw_all := lw_in wsX20 [589, 591] (by decide +kernel) (by decide +kernel)

