/-! SOUND 29: strings -/
set_option maxRecDepth 100000
abbrev rmJ (k : Nat) : Room := { frames := k, cells := 0, slots := 0, locals := 30 * k }
abbrev QJ (H : Heap) (v : Option Value) : Array Value → State → Outcome → State → Prop := fun _ _ oc t => oc = .returned v ∧ t.heap = H
/-- a method of the library's that changes nothing: As in, v out -/
def MJ (l : Launch) (y : MethodName) (cc : ByteArray) (nL : Nat) (ret : Option FieldType) (k : Nat) (s : State) (H : Heap) (As : List Value) (v : Option Value) : Prop :=
  vx_Met l y (ws_ y cc nL ret) (rmJ k) (PcC s H As) (QJ H v) (fun _ _ _ _ => False) 0 0 (fun _ => False)
def BJ (p : Program) (own : String) (cc : ByteArray) (nL : Nat) (ret : Option FieldType) (m : MethodId) (s : State) (c : Code) (meth : Method) (As : Array Value) : Prop :=
  p.tables.exec = Jvm.exec ∧ c.code = cc ∧ c.maxLocals = nL ∧ s.vm.findClass own = some m.cls ∧ (∀ w ∈ lw_all, w.before As s = true) ∧ meth.sig.returnType = ret ∧ meth.locks = false
section
variable {l : Launch} {y y2 : MethodName} {cc b : ByteArray} {nL L : Nat} {ret r : Option FieldType} {k K : Nat} {s : State} {H : Heap} {As As2 : List Value} {v : Option Value} {own : String}
variable {p : Program} {e : Env} {m : MethodId} {below : List Frame} {meth : Method} {c : Code} {la : Array Slot} {rest : List Value} {pc idx : Nat} {Q : State → Prop} {locs : List Loc} {cells slots : Nat} {R : Room} {args : Array Value}
theorem mj_of (hy : plainName y.cls = true) (hn : (lg_sl As).length ≤ nL)
    (body : ∀ (p : Program) (e : Env) (s' : State) (m : MethodId) (below : List Frame) (meth : Method) (c : Code) (la : Array Slot), BJ p y.cls cc nL ret m s' c meth As.toArray → s'.heap = H → s.WarmedH s'.vm → lv_has la nL (lv_args 0 As) →
      W p l e (rmJ k) s' m As.toArray below meth c s'.heap [] 0 0 (vx_MQ below (QJ H v) (fun _ _ _ _ => False) As.toArray s' 0 0 (fun _ => False)) (F0 m 0 la [])) : MJ l y cc nL ret k s H As v := by
  refine vx_ofW (cc := cc) (maxL := nL) (ret := ret) hy rfl ?_
  intro p e s' m args below meth c s₁ B hml ht hP
  obtain ⟨rfl, hH, hW⟩ := hP
  have hts : ∀ w ∈ ws_ y cc nL ret, w.before As.toArray s' = true := atoms_spec (ws := ws_ y cc nL ret) B.pre
  rw [lg_entry_eq]
  exact body p e s' m below meth c _ ⟨B.exec, B.bytes, hml, findClass_of_methodNamed B.named, fun w h => hts w (List.mem_cons_of_mem _ h), B.returns, BodyLoose.notSynchronized B⟩ hH hW (lv_entry As hn)
theorem jret {t : FieldType} {x : Int32} (B : BJ p own cc nL (some t) m s c meth args) (hH : s.heap = H) (hn : narrow t (.int x) = .int x) (hd : decode cc pc = .ok (.ireturn, 1)) :
    W p l e R s m args below meth c s.heap [] 0 0 (vx_MQ below (QJ H (some (.int x))) (fun _ _ _ _ => False) args s 0 0 (fun _ => False)) (F0 m pc la [.int x]) :=
  vx_ret (W.zret B.1 B.2.1 B.2.2.2.2.2.1 hn (fun t ht _ => ⟨rfl, ht.trans hH⟩) (fun q hq => by cases hq) hd (hlocks := B.2.2.2.2.2.2))
/-- after a call that changed nothing -/
theorem jafter {g : JFrame} {Qa : State → Outcome → State → Prop} (hQ : ∀ a b d, Qa a b d → b = .returned v ∧ d.heap = H) (hrun : vx_Run p l e R s m args below meth c H locs cells slots 0 0 g rest Qa (fun _ _ _ _ => False) (fun _ => False))
    (kk : W p l e R s m args below meth c H locs cells slots Q { g with pc := g.pc + 3, stack := v.toList ++ rest }) : W p l e R s m args below meth c H locs cells slots Q g := by
  intro T hT X
  rcases hrun T hT X with ⟨v', st₀, t, T', LL, h0, X', hL, q1, q2, hq, stp⟩ | ⟨_, _, _, _, _, _, _, _, _, _, _, _, hF, _⟩
  · obtain ⟨ho, hh⟩ := hQ _ _ _ hq
    have ho : v' = v := by injection ho
    subst ho
    have eL : LL = [] := by
      cases LL with
      | nil => rfl
      | cons q _ => exact (hL q List.mem_cons_self).elim
    subst eL
    rw [List.append_nil] at X'
    obtain ⟨t2, a1, b1⟩ := kk T' (q1.trans hh) X'
    exact ⟨t2, stp t2 a1, b1⟩
  · exact hF.elim
theorem jS {n : Nat} (S : CallFix p m c cc nL s args lw_all own) (hM : MJ l y2 b L r k s H As2 v) (w1 : Cond.methodLink own idx y2 ∈ lw_all) (w2 : Cond.static y2 ∈ lw_all) (w3 : Cond.initialized y2.cls ∈ lw_all) (w4 : Cond.code y2 b L r ∈ lw_all)
    (hdd : y2.cls ≠ "java/lang/invoke/MethodHandle" ∧ y2.cls ≠ "java/lang/invoke/VarHandle" ∧ (parseMethodDescriptor y2.desc).map (fun d => d.parameters.length) = some n) (hn : As2.length = n) (hfr : k + 1 ≤ R.frames) (hlo : 8 + (L + 11) + 30 * k ≤ R.locals) (hc : cells ≤ R.cells ∧ slots ≤ R.slots) (hla : la.size = nL) (hcat : (rest.map fun v => v.category).sum ≤ 8) (hd : decode cc pc = .ok (.invokestatic idx, 3))
    (kk : W p l e R s m args below meth c H locs cells slots Q (F0 m (pc + 3) la (v.toList ++ rest))) : W p l e R s m args below meth c H locs cells slots Q (F0 m pc la (As2.reverse ++ rest)) :=
  jafter (fun _ _ _ h => h) (vx_runS (g := F0 m pc la (As2.reverse ++ rest)) S hM (va_cwS n S.2.2.2.2 (lw_S w1 w2 w3 w4) rfl rfl rfl hdd ⟨hfr, hlo⟩) ⟨PcC_blind _ _ _, fun U hU hW => ⟨rfl, hU, hW⟩⟩ rfl hn hla rfl (by show 2 * 0 + _ ≤ 8; omega) hd hc) kk
theorem jV {n a : Nat} {C : String} (S : CallFix p m c cc nL s args lw_all own) (hrec : ∃ cell : Cell, H[a]? = some cell ∧ cell.vm.isStatics = false ∧ s.vm.findClass C = some cell.cls) (hM : MJ l y2 b L r k s H (.ref a :: As2) v) (eC : y2.cls = C) (w1 : Cond.methodLink own idx y2 ∈ lw_all) (w2 : Cond.instanceMethod y2 ∈ lw_all) (w3 : Cond.selects C y2 y2 ∈ lw_all) (w4 : Cond.initialized C ∈ lw_all) (w5 : Cond.code y2 b L r ∈ lw_all)
    (hdd : y2.cls ≠ "java/lang/invoke/MethodHandle" ∧ y2.cls ≠ "java/lang/invoke/VarHandle" ∧ (parseMethodDescriptor y2.desc).map (fun d => d.parameters.length) = some n) (hn : As2.length = n) (hfr : k + 1 ≤ R.frames) (hlo : 8 + (L + 11) + 30 * k ≤ R.locals) (hc : cells ≤ R.cells ∧ slots ≤ R.slots) (hla : la.size = nL) (hcat : (rest.map fun v => v.category).sum ≤ 8) (hd : decode cc pc = .ok (.invokevirtual idx, 3))
    (kk : W p l e R s m args below meth c H locs cells slots Q (F0 m (pc + 3) la (v.toList ++ rest))) : W p l e R s m args below meth c H locs cells slots Q (F0 m pc la (As2.reverse ++ .ref a :: rest)) :=
  jafter (fun _ _ _ h => h) (vx_runV (g := F0 m pc la (As2.reverse ++ .ref a :: rest)) S hM (cwV n S.2.2.2.2 (lw_V w1 w2 w3 w4 w5) rfl rfl rfl ⟨eC, hdd⟩ ⟨hfr, hlo⟩) ⟨PcC_blind _ _ _, hrec, fun U hU hW => ⟨rfl, hU, hW⟩⟩ rfl hn hla rfl (by show 2 * 0 + _ ≤ 8; omega) hd hc) kk
theorem BJ.fix (B : BJ p own cc nL ret m s c meth args) : CallFix p m c cc nL s args lw_all own := ⟨B.1, B.2.1, B.2.2.1, B.2.2.2.1, B.2.2.2.2.1⟩
end
theorem dsT_lt : ∀ k, k < 115 → dsT.getD k 0 < lnT.length := by decide +kernel
abbrev sLn (k : Nat) : Nat := lnT.getD (dsT.getD k 0) 0
abbrev sBy (k : Nat) : Nat → Int32 := fun j => (byT.getD (dsT.getD k 0) []).getD j 0
theorem KF.str {G : GX} {U : State} {H : Heap} (hK : KF G U H) {k : Nat} (hk : k < 115) : ∃ t, va_O "java/lang/String" (gS G k) (gA G) U H ∧ va_OF "java/lang/String" "code\x72" "B" (.int 0) (gS G k) (gA G) U H ∧ va_OF "java/lang/String" "value" "[B" (.ref t) (gS G k) (gA G) U H ∧ va_T .byte t (sLn k) (fun j => .int (sBy k j)) (gA G) U H := by
  obtain ⟨-, -, -, -, -, -, -, -, -, -, adK, adV, h1, h2, -⟩ := hK
  rw [h1 k hk]
  exact ⟨_, h2.1 _ (dsT_lt k hk)⟩
theorem KF.sz {G : GX} {U : State} {H : Heap} (hK : KF G U H) : SZ G U H := hK.2.2.2.2.2.2.2.2.2.1
abbrev Sj : String := "java/lang/String"
abbrev yLen : MethodName := ⟨Sj, "length", "()I"⟩
abbrev yCod : MethodName := ⟨Sj, "code\x72", "()B"⟩
abbrev yLat : MethodName := ⟨Sj, "isLatin1", "()Z"⟩
abbrev yChr : MethodName := ⟨Sj, "charAt", "(I)C"⟩
abbrev yChk : MethodName := ⟨Sj, "checkIndex", "(II)V"⟩
abbrev yIx1 : MethodName := ⟨Sj, "indexOf", "(I)I"⟩
abbrev yIx2 : MethodName := ⟨Sj, "indexOf", "(II)I"⟩
abbrev yPck : MethodName := ⟨"jdk/internal/util/Preconditions", "checkIndex", "(IILjava/util/function/BiFunction;)I"⟩
abbrev yLch : MethodName := ⟨"java/lang/StringLatin1", "charAt", "([BI)C"⟩
abbrev yLix : MethodName := ⟨"java/lang/StringLatin1", "indexOf", "([BIII)I"⟩
abbrev yLic : MethodName := ⟨"java/lang/StringLatin1", "indexOfCha\x72", "([BIII)I"⟩
abbrev yCan : MethodName := ⟨"java/lang/StringLatin1", "canEncode", "(I)Z"⟩
section
variable {l : Launch} {G : GX} {s : State} {H : Heap} {locs : List Loc} {k t N : Nat} {f : Nat → Int32}
theorem mj_cod (hK : KF G s s.heap) (hS : va_S (gA G) s.heap H locs) (hk : k < 115) : MJ l yCod cJ5_coder 1 (some .byte) 0 s H [.ref (gS G k)] (some (.int 0)) := by
  refine mj_of (by decide +kernel) (Nat.le_refl 1) ?_; intro p e s' m below meth c la B hH hW hl; subst hH
  have hK' := hK.move hW hS; obtain ⟨t, hO, hco, hva, hT⟩ := hK'.str hk; obtain ⟨zC, zS⟩ := hK'.sz; have hrec : ∃ cell : Cell, s'.heap[gS G k]? = some cell ∧ cell.vm.isStatics = false ∧ s'.vm.findClass Sj = some cell.cls := by obtain ⟨cell, h1, h2, h3, -⟩ := hO; exact ⟨cell, h1, h2, h3⟩
  refine va_gets (own := Sj) (ref := Sj) B.1 B.2.1 zC va_S.rf B.2.2.2.1 (B.2.2.2.2.1 _ q3520) (fun _ z => z) dJ5_coder_0 ?_
  refine lv_if_eq (tgt := 13) B.1 B.2.1 dJ5_coder_3 rfl (fun z => absurd z (by decide)) (fun _ => ?_)
  refine lv_aload_n B.1 B.2.1 dJ5_coder_6 rfl (lv_at hl 0 rfl) ?_
  refine vk_getf (own := Sj) (ref := Sj) B.1 B.2.1 hco va_S.rf B.2.2.2.1 (B.2.2.2.2.1 _ q6169) (fun _ z => z) dJ5_coder_7 ?_
  refine lv_goto (tgt := 14) B.1 B.2.1 dJ5_coder_10 rfl ?_
  exact jret B rfl rfl dJ5_coder_14
theorem mj_lat (hK : KF G s s.heap) (hS : va_S (gA G) s.heap H locs) (hk : k < 115) : MJ l yLat cJ5_isLatin1 1 (some .boolean) 0 s H [.ref (gS G k)] (some (.int 1)) := by
  refine mj_of (by decide +kernel) (Nat.le_refl 1) ?_; intro p e s' m below meth c la B hH hW hl; subst hH
  have hK' := hK.move hW hS; obtain ⟨t, hO, hco, hva, hT⟩ := hK'.str hk; obtain ⟨zC, zS⟩ := hK'.sz; have hrec : ∃ cell : Cell, s'.heap[gS G k]? = some cell ∧ cell.vm.isStatics = false ∧ s'.vm.findClass Sj = some cell.cls := by obtain ⟨cell, h1, h2, h3, -⟩ := hO; exact ⟨cell, h1, h2, h3⟩
  refine va_gets (own := Sj) (ref := Sj) B.1 B.2.1 zC va_S.rf B.2.2.2.1 (B.2.2.2.2.1 _ q3520) (fun _ z => z) dJ5_isLatin1_0 ?_
  refine lv_if_eq (tgt := 17) B.1 B.2.1 dJ5_isLatin1_3 rfl (fun z => absurd z (by decide)) (fun _ => ?_)
  refine lv_aload_n B.1 B.2.1 dJ5_isLatin1_6 rfl (lv_at hl 0 rfl) ?_
  refine vk_getf (own := Sj) (ref := Sj) B.1 B.2.1 hco va_S.rf B.2.2.2.1 (B.2.2.2.2.1 _ q6169) (fun _ z => z) dJ5_isLatin1_7 ?_
  refine lv_if_ne (tgt := 17) B.1 B.2.1 dJ5_isLatin1_10 rfl (fun z => absurd rfl z) (fun _ => ?_)
  refine lv_iconst B.1 B.2.1 dJ5_isLatin1_13 rfl ?_
  refine lv_goto (tgt := 18) B.1 B.2.1 dJ5_isLatin1_14 rfl ?_
  exact jret B rfl rfl dJ5_isLatin1_18
theorem mj_len (hK : KF G s s.heap) (hS : va_S (gA G) s.heap H locs) (hk : k < 115) : MJ l yLen cJ5_length 1 (some .int) 1 s H [.ref (gS G k)] (some (.int (Int32.ofNat (sLn k)))) := by
  refine mj_of (by decide +kernel) (Nat.le_refl 1) ?_; intro p e s' m below meth c la B hH hW hl; subst hH
  have hK' := hK.move hW hS; obtain ⟨t, hO, hco, hva, hT⟩ := hK'.str hk; obtain ⟨zC, zS⟩ := hK'.sz; have hrec : ∃ cell : Cell, s'.heap[gS G k]? = some cell ∧ cell.vm.isStatics = false ∧ s'.vm.findClass Sj = some cell.cls := by obtain ⟨cell, h1, h2, h3, -⟩ := hO; exact ⟨cell, h1, h2, h3⟩
  refine lv_aload_n B.1 B.2.1 dJ5_length_0 rfl (lv_at hl 0 rfl) ?_
  refine vk_getf (own := Sj) (ref := Sj) B.1 B.2.1 hva va_S.rf B.2.2.2.1 (B.2.2.2.2.1 _ q6168) (fun _ z => z) dJ5_length_1 ?_
  refine va_tlen B.1 B.2.1 hT va_S.rf rfl dJ5_length_4 ?_
  refine lv_aload_n B.1 B.2.1 dJ5_length_5 rfl (lv_at hl 0 rfl) ?_
  refine jV (As2 := []) (n := 0) B.fix hrec (mj_cod hK' va_S.rf hk) rfl q3516 q3517 q3518 q527 q3519 ⟨by decide, by decide, by decide +kernel⟩ rfl (by decide) (by decide) ⟨Nat.le_refl _, Nat.le_refl _⟩ hl.1 (show 1 + 0 ≤ 8 by decide) dJ5_length_6 ?_
  refine lv_ishr B.1 B.2.1 dJ5_length_9 ?_
  rw [show ((0 : Int32) &&& 31) = 0 by decide, Int32.shiftRight_zero]
  exact jret B rfl rfl dJ5_length_10
theorem mj_pck {i n : Int32} {vF : Value} (hF : vF = .null ∨ ∃ a, vF = .ref a) (h0 : ¬ i < 0) (h1 : i < n) : MJ l yPck cJ16_checkIndex 3 (some .int) 0 s H [.int i, .int n, vF] (some (.int i)) := by
  have hnn : (lg_sl [.int i, .int n, vF]).length ≤ 3 := by rcases hF with rfl | ⟨a, rfl⟩ <;> exact Nat.le_refl 3
  refine mj_of (by decide +kernel) hnn ?_
  intro p e s' m below meth c la B hH hW hl
  subst hH
  refine lv_iload_n B.1 B.2.1 dJ16_checkIndex_0 rfl (lv_at hl 0 rfl) ?_
  refine lv_if_lt (tgt := 9) B.1 B.2.1 dJ16_checkIndex_1 rfl (fun z => absurd z h0) (fun _ => ?_)
  refine lv_iload_n B.1 B.2.1 dJ16_checkIndex_4 rfl (lv_at hl 0 rfl) ?_
  refine lv_iload_n B.1 B.2.1 dJ16_checkIndex_5 rfl (lv_at hl 1 rfl) ?_
  refine lv_icmp_lt (tgt := 16) B.1 B.2.1 dJ16_checkIndex_6 rfl (fun _ => ?_) (fun z => absurd h1 z)
  refine lv_iload_n B.1 B.2.1 dJ16_checkIndex_16 rfl (lv_at hl 0 rfl) ?_
  exact jret B rfl rfl dJ16_checkIndex_17
theorem mj_chk {i n : Int32} (hK : KF G s s.heap) (hS : va_S (gA G) s.heap H locs) (h0 : ¬ i < 0) (h1 : i < n) : MJ l yChk cJ5_checkIndex 2 none 1 s H [.int i, .int n] none := by
  refine mj_of (by decide +kernel) (Nat.le_refl 2) ?_
  intro p e s' m below meth c la B hH hW hl
  subst hH
  have hK' := hK.move hW hS
  obtain ⟨-, zS⟩ := hK'.sz
  obtain ⟨vF, hF, zS⟩ : ∃ vF : Value, (vF = .null ∨ ∃ a, vF = .ref a) ∧ va_Z "jdk/internal/util/Preconditions" "SIOOBE_FORMATTER" "Ljava/util/function/BiFunction;" vF (gA G) s' s'.heap := by
    rcases zS with z | ⟨a, z⟩
    · exact ⟨_, Or.inl rfl, z⟩
    · exact ⟨_, Or.inr ⟨a, rfl⟩, z⟩
  refine lv_iload_n B.1 B.2.1 dJ5_checkIndex_0 rfl (lv_at hl 0 rfl) ?_
  refine lv_iload_n B.1 B.2.1 dJ5_checkIndex_1 rfl (lv_at hl 1 rfl) ?_
  refine va_gets (own := Sj) (ref := "jdk/internal/util/Preconditions") B.1 B.2.1 zS va_S.rf B.2.2.2.1 (B.2.2.2.2.1 _ q3536) (fun _ z => z) dJ5_checkIndex_2 ?_
  refine jS (As2 := [.int i, .int n, vF]) (rest := []) (n := 3) B.fix (mj_pck hF h0 h1) q3538 q3539 q564 q3540 ⟨by decide, by decide, by decide +kernel⟩ rfl (by decide) (by decide) ⟨Nat.le_refl _, Nat.le_refl _⟩ hl.1 (Nat.zero_le _) dJ5_checkIndex_5 ?_
  refine lv_pop B.1 B.2.1 dJ5_checkIndex_8 rfl ?_
  exact vx_ret (W.vret B.1 B.2.1 B.2.2.2.2.2.1 (fun t ht _ => ⟨rfl, ht⟩) (fun q hq => by cases hq) dJ5_checkIndex_9 (hlocks := B.2.2.2.2.2.2))
theorem mj_lch {i w : Int32} (hK : KF G s s.heap) (hS : va_S (gA G) s.heap H locs) (hT : va_T .byte t N (fun j => .int (f j)) (gA G) s s.heap) (hi : vp_in i N) (h1 : i < Int32.ofNat N) (hw : ((f i.toNatClampNeg &&& 255).toUInt32 % 65536).toInt32 = w) (hn : narrow .char (.int w) = .int w) :
    MJ l yLch cJ15_charAt 2 (some .char) 2 s H [.ref t, .int i] (some (.int w)) := by
  refine mj_of (by decide +kernel) (Nat.le_refl 2) ?_
  intro p e s' m below meth c la B hH hW hl
  subst hH
  have hK' := hK.move hW hS
  have hT' := (hT.moved hW.alike).kept hS.2.1
  refine lv_iload_n B.1 B.2.1 dJ15_charAt_0 rfl (lv_at hl 1 rfl) ?_
  refine lv_aload_n B.1 B.2.1 dJ15_charAt_1 rfl (lv_at hl 0 rfl) ?_
  refine va_tlen B.1 B.2.1 hT' va_S.rf rfl dJ15_charAt_2 ?_
  refine jS (As2 := [.int i, .int (Int32.ofNat N)]) (rest := []) (n := 2) B.fix (mj_chk hK' va_S.rf (fun z => hi (Or.inl z)) h1) q3533 q3534 q527 q3535 ⟨by decide, by decide, by decide +kernel⟩ rfl (by decide) (by decide) ⟨Nat.le_refl _, Nat.le_refl _⟩ hl.1 (Nat.zero_le _) dJ15_charAt_3 ?_
  refine lv_aload_n B.1 B.2.1 dJ15_charAt_6 rfl (lv_at hl 0 rfl) ?_
  refine lv_iload_n B.1 B.2.1 dJ15_charAt_7 rfl (lv_at hl 1 rfl) ?_
  refine va_tb B.1 B.2.1 hT' va_S.rf hi rfl dJ15_charAt_8 ?_
  refine lv_sipush B.1 B.2.1 dJ15_charAt_9 rfl ?_
  refine lv_iand B.1 B.2.1 dJ15_charAt_12 ?_
  refine lv_i2c B.1 B.2.1 dJ15_charAt_13 hw ?_
  exact jret B rfl hn dJ15_charAt_14
theorem mj_chr {i w : Int32} (hK : KF G s s.heap) (hS : va_S (gA G) s.heap H locs) (hk : k < 115) (hi : vp_in i (sLn k)) (h1 : i < Int32.ofNat (sLn k)) (hw : ((sBy k i.toNatClampNeg &&& 255).toUInt32 % 65536).toInt32 = w) (hn : narrow .char (.int w) = .int w) :
    MJ l yChr cJ5_charAt 2 (some .char) 3 s H [.ref (gS G k), .int i] (some (.int w)) := by
  refine mj_of (by decide +kernel) (Nat.le_refl 2) ?_
  intro p e s' m below meth c la B hH hW hl
  subst hH
  have hK' := hK.move hW hS; obtain ⟨t, hO, hco, hva, hT⟩ := hK'.str hk; obtain ⟨zC, zS⟩ := hK'.sz; have hrec : ∃ cell : Cell, s'.heap[gS G k]? = some cell ∧ cell.vm.isStatics = false ∧ s'.vm.findClass Sj = some cell.cls := by obtain ⟨cell, h1, h2, h3, -⟩ := hO; exact ⟨cell, h1, h2, h3⟩
  refine lv_aload_n B.1 B.2.1 dJ5_charAt_0 rfl (lv_at hl 0 rfl) ?_
  refine jV (As2 := []) (rest := []) (n := 0) B.fix hrec (mj_lat hK' va_S.rf hk) rfl q3526 q3527 q3528 q527 q3529 ⟨by decide, by decide, by decide +kernel⟩ rfl (by decide) (by decide) ⟨Nat.le_refl _, Nat.le_refl _⟩ hl.1 (Nat.zero_le _) dJ5_charAt_1 ?_
  refine lv_if_eq (tgt := 16) B.1 B.2.1 dJ5_charAt_4 rfl (fun z => absurd z (by decide)) (fun _ => ?_)
  refine lv_aload_n B.1 B.2.1 dJ5_charAt_7 rfl (lv_at hl 0 rfl) ?_
  refine vk_getf (own := Sj) (ref := Sj) B.1 B.2.1 hva va_S.rf B.2.2.2.1 (B.2.2.2.2.1 _ q6168) (fun _ z => z) dJ5_charAt_8 ?_
  refine lv_iload_n B.1 B.2.1 dJ5_charAt_11 rfl (lv_at hl 1 rfl) ?_
  refine jS (As2 := [.ref t, .int i]) (rest := []) (n := 2) B.fix (mj_lch hK' va_S.rf hT hi h1 hw hn) q3530 q3531 q563 q3532 ⟨by decide, by decide, by decide +kernel⟩ rfl (by decide) (by decide) ⟨Nat.le_refl _, Nat.le_refl _⟩ hl.1 (Nat.zero_le _) dJ5_charAt_12 ?_
  exact jret B rfl hn dJ5_charAt_15
/-- can a sign be one of the first 256 -/
def canE (c : Int32) : Int32 := if c < 0 then 0 else if (255 : Int32) < c then 0 else 1
theorem mj_can {x : Int32} : MJ l yCan cJ15_canEncode 1 (some .boolean) 0 s H [.int x] (some (.int (canE x))) := by
  refine mj_of (by decide +kernel) (Nat.le_refl 1) ?_
  intro p e s' m below meth c la B hH hW hl
  subst hH
  have hout : ∀ z : Int32, z = 0 → canE x = z → W p l e (rmJ 0) s' m [Value.int x].toArray below meth c s'.heap [] 0 0 (vx_MQ below (QJ s'.heap (some (.int (canE x)))) (fun _ _ _ _ => False) [Value.int x].toArray s' 0 0 (fun _ => False)) (F0 m 15 la []) := by
    intro z hz he
    refine lv_iconst B.1 B.2.1 dJ15_canEncode_15 (v := z) (by rw [hz]; rfl) ?_
    rw [he]
    exact jret B rfl (by rw [hz]; rfl) dJ15_canEncode_16
  refine lv_iload_n B.1 B.2.1 dJ15_canEncode_0 rfl (lv_at hl 0 rfl) ?_
  refine lv_if_lt (tgt := 15) B.1 B.2.1 dJ15_canEncode_1 rfl (fun z => hout 0 rfl (by unfold canE; rw [if_pos z])) (fun h0 => ?_)
  refine lv_iload_n B.1 B.2.1 dJ15_canEncode_4 rfl (lv_at hl 0 rfl) ?_
  refine lv_sipush B.1 B.2.1 dJ15_canEncode_5 (v := 255) rfl ?_
  refine lv_icmp_gt (tgt := 15) B.1 B.2.1 dJ15_canEncode_8 rfl (fun z => hout 0 rfl (by unfold canE; rw [if_neg h0, if_pos z])) (fun h1 => ?_)
  refine lv_iconst B.1 B.2.1 dJ15_canEncode_11 (v := 1) rfl ?_
  refine lv_goto (tgt := 16) B.1 B.2.1 dJ15_canEncode_12 rfl ?_
  rw [show canE x = 1 by unfold canE; rw [if_neg h0, if_neg h1]]
  exact jret B rfl rfl dJ15_canEncode_16
/-- the first place, from i on, n signs far -/
def ixn (f : Nat → Int32) (b : Int32) : Nat → Nat → Int32
  | 0, _ => -1
  | n + 1, i => if f i = b then Int32.ofNat i else ixn f b n (i + 1)
theorem i32_le {a b : Nat} (ha : a < 2 ^ 31) (hb : b < 2 ^ 31) : Int32.ofNat a ≤ Int32.ofNat b ↔ a ≤ b := by
  rw [Int32.le_iff_toInt_le, Int32.toInt_ofNat_of_lt ha, Int32.toInt_ofNat_of_lt hb]
  omega
theorem mj_lic {x : Int32} (hS : va_S (gA G) s.heap H locs) (hT : va_T .byte t N (fun j => .int (f j)) (gA G) s s.heap) (hN : N < 2 ^ 31) :
    MJ l yLic cJ15_indexOfChar 6 (some .int) 0 s H [.ref t, .int x, .int 0, .int (Int32.ofNat N)] (some (.int (ixn f x.toInt8.toInt32 N 0))) := by
  refine mj_of (by decide +kernel) (show 4 ≤ 6 by decide) ?_
  intro p e s' m below meth c la B hH hW hl
  subst hH
  have hT' := (hT.moved hW.alike).kept hS.2.1
  have hloop : ∀ (n i : Nat) (la : Array Slot), i + n = N → lv_has la 6 [(5, .int (Int32.ofNat i)), (4, .int x.toInt8.toInt32), (0, .ref t), (1, .int x), (2, .int 0), (3, .int (Int32.ofNat N))] →
      W p l e (rmJ 0) s' m [.ref t, .int x, .int 0, .int (Int32.ofNat N)].toArray below meth c s'.heap [] 0 0 (vx_MQ below (QJ s'.heap (some (.int (ixn f x.toInt8.toInt32 n i)))) (fun _ _ _ _ => False) [.ref t, .int x, .int 0, .int (Int32.ofNat N)].toArray s' 0 0 (fun _ => False)) (F0 m 7 la []) := by
    intro n
    induction n with
    | zero =>
      intro i la hi hl
      refine lv_iload B.1 B.2.1 dJ15_indexOfChar_7 (lv_at hl 0 rfl) ?_
      refine lv_iload_n B.1 B.2.1 dJ15_indexOfChar_9 rfl (lv_at hl 5 rfl) ?_
      refine lv_icmp_ge (tgt := 31) B.1 B.2.1 dJ15_indexOfChar_10 rfl (fun _ => ?_) (fun z => absurd ((i32_le (by omega) (by omega)).mpr (by omega)) z)
      refine lv_iconst B.1 B.2.1 dJ15_indexOfChar_31 (v := -1) rfl ?_
      exact jret B rfl rfl dJ15_indexOfChar_32
    | succ n ih =>
      intro i la hi hl
      refine lv_iload B.1 B.2.1 dJ15_indexOfChar_7 (lv_at hl 0 rfl) ?_
      refine lv_iload_n B.1 B.2.1 dJ15_indexOfChar_9 rfl (lv_at hl 5 rfl) ?_
      refine lv_icmp_ge (tgt := 31) B.1 B.2.1 dJ15_indexOfChar_10 rfl (fun z => absurd ((i32_le (by omega) (by omega)).mp z) (by omega)) (fun _ => ?_)
      refine lv_aload_n B.1 B.2.1 dJ15_indexOfChar_13 rfl (lv_at hl 2 rfl) ?_
      refine lv_iload B.1 B.2.1 dJ15_indexOfChar_14 (lv_at hl 0 rfl) ?_
      have hcl : (Int32.ofNat i).toNatClampNeg = i := by
        show (Int32.ofNat i).toInt.toNat = i
        rw [Int32.toInt_ofNat_of_lt (show i < 2 ^ 31 by omega)]
        rfl
      have hin : vp_in (Int32.ofNat i) N := by
        rintro (z | z)
        · have := Int32.lt_iff_toInt_lt.mp z
          rw [Int32.toInt_ofNat_of_lt (show i < 2 ^ 31 by omega), show (0 : Int32).toInt = 0 by decide] at this
          omega
        · rw [hcl] at z
          omega
      refine va_tb B.1 B.2.1 hT' va_S.rf hin (v := .int (f i)) (by rw [hcl]) dJ15_indexOfChar_16 ?_
      refine lv_iload B.1 B.2.1 dJ15_indexOfChar_17 (lv_at hl 1 rfl) ?_
      unfold ixn
      refine lv_icmp_ne (tgt := 25) B.1 B.2.1 dJ15_indexOfChar_19 rfl (fun z => ?_) (fun z => ?_)
      · rw [if_neg z]
        refine lv_iinc B.1 B.2.1 dJ15_indexOfChar_25 hl (k := 0) rfl (v := Int32.ofNat (i + 1)) (by rw [Int32.ofNat_add]; rfl) (by decide) rfl fun la2 hl2 => ?_
        refine lv_goto (tgt := 7) B.1 B.2.1 dJ15_indexOfChar_28 rfl ?_
        exact ih (i + 1) la2 (by omega) hl2
      · rw [if_pos z]
        refine lv_iload B.1 B.2.1 dJ15_indexOfChar_22 (lv_at hl 0 rfl) ?_
        exact jret B rfl rfl dJ15_indexOfChar_24
  refine lv_iload_n B.1 B.2.1 dJ15_indexOfChar_0 rfl (lv_at hl 1 rfl) ?_
  refine lv_i2b B.1 B.2.1 dJ15_indexOfChar_1 rfl ?_
  refine lv_istore B.1 B.2.1 dJ15_indexOfChar_2 hl (by decide) rfl fun la2 hl2 => ?_
  refine lv_iload_n B.1 B.2.1 dJ15_indexOfChar_4 rfl (lv_at hl2 3 rfl) ?_
  refine lv_istore B.1 B.2.1 dJ15_indexOfChar_5 hl2 (by decide) rfl fun la3 hl3 => ?_
  exact hloop N 0 la3 (by omega) hl3
/-- what StringLatin1.indexOf answers -/
def ixL (f : Nat → Int32) (x : Int32) (N : Nat) : Int32 := if canE x = 0 then -1 else ixn f x.toInt8.toInt32 N 0
theorem mj_lix {x : Int32} (hS : va_S (gA G) s.heap H locs) (hT : va_T .byte t N (fun j => .int (f j)) (gA G) s s.heap) (hN : N < 2 ^ 31) (hN0 : 0 < N) :
    MJ l yLix cJ15_indexOf 4 (some .int) 1 s H [.ref t, .int x, .int 0, .int (Int32.ofNat N)] (some (.int (ixL f x N))) := by
  refine mj_of (by decide +kernel) (show 4 ≤ 4 by decide) ?_
  intro p e s' m below meth c la B hH hW hl
  subst hH
  have hT' := (hT.moved hW.alike).kept hS.2.1
  refine lv_iload_n B.1 B.2.1 dJ15_indexOf_0 rfl (lv_at hl 1 rfl) ?_
  refine jS (As2 := [.int x]) (rest := []) (n := 1) B.fix mj_can q5465 q5466 q563 q5467 ⟨by decide, by decide, by decide +kernel⟩ rfl (by decide) (by decide) ⟨Nat.le_refl _, Nat.le_refl _⟩ hl.1 (Nat.zero_le _) dJ15_indexOf_1 ?_
  unfold ixL
  refine lv_if_ne (tgt := 9) B.1 B.2.1 dJ15_indexOf_4 rfl (fun z => ?_) (fun z => ?_)
  · rw [if_neg z]
    refine lv_iload_n B.1 B.2.1 dJ15_indexOf_9 rfl (lv_at hl 2 rfl) ?_
    refine lv_iconst B.1 B.2.1 dJ15_indexOf_10 (v := 0) rfl ?_
    refine va_mmax B.1 B.2.1 (B.2.2.1.trans hl.1.symm) B.2.2.2.1 (B.2.2.2.2.1 _ q5468) (B.2.2.2.2.1 _ q4980) (B.2.2.2.2.1 _ q556) (B.2.2.2.2.1 _ q4981) (by decide) (by decide) (Nat.le_refl _) (Nat.le_refl _) dJ15_indexOf_11 ?_
    refine lv_istore_n B.1 B.2.1 dJ15_indexOf_14 rfl hl (by decide) rfl fun la2 hl2 => ?_
    refine lv_iload_n B.1 B.2.1 dJ15_indexOf_15 rfl (lv_at hl2 3 rfl) ?_
    refine lv_aload_n B.1 B.2.1 dJ15_indexOf_16 rfl (lv_at hl2 1 rfl) ?_
    refine va_tlen B.1 B.2.1 hT' va_S.rf rfl dJ15_indexOf_17 ?_
    refine va_mmin B.1 B.2.1 (B.2.2.1.trans hl2.1.symm) B.2.2.2.1 (B.2.2.2.2.1 _ q5469) (B.2.2.2.2.1 _ q2202) (B.2.2.2.2.1 _ q556) (B.2.2.2.2.1 _ q2203) (by decide) (by decide) (Nat.le_refl _) (Nat.le_refl _) dJ15_indexOf_18 ?_
    rw [show (if Int32.ofNat N < Int32.ofNat N then Int32.ofNat N else Int32.ofNat N) = Int32.ofNat N from ite_self _]
    refine lv_istore_n B.1 B.2.1 dJ15_indexOf_21 rfl hl2 (by decide) rfl fun la3 hl3 => ?_
    refine lv_iload_n B.1 B.2.1 dJ15_indexOf_22 rfl (lv_at hl3 1 rfl) ?_
    refine lv_iload_n B.1 B.2.1 dJ15_indexOf_23 rfl (lv_at hl3 0 rfl) ?_
    refine lv_icmp_lt (tgt := 29) B.1 B.2.1 dJ15_indexOf_24 rfl (fun _ => ?_) (fun z => ?_)
    · refine lv_aload_n B.1 B.2.1 dJ15_indexOf_29 rfl (lv_at hl3 2 rfl) ?_
      refine lv_iload_n B.1 B.2.1 dJ15_indexOf_30 rfl (lv_at hl3 3 rfl) ?_
      refine lv_iload_n B.1 B.2.1 dJ15_indexOf_31 rfl (lv_at hl3 1 rfl) ?_
      refine lv_iload_n B.1 B.2.1 dJ15_indexOf_32 rfl (lv_at hl3 0 rfl) ?_
      refine jS (As2 := [.ref t, .int x, .int 0, .int (Int32.ofNat N)]) (rest := []) (n := 4) B.fix (mj_lic va_S.rf hT' hN) q5470 q5471 q563 q5472 ⟨by decide, by decide, by decide +kernel⟩ rfl (by decide) (by decide) ⟨Nat.le_refl _, Nat.le_refl _⟩ hl3.1 (Nat.zero_le _) dJ15_indexOf_33 ?_
      exact jret B rfl rfl dJ15_indexOf_36
    · refine absurd ?_ z
      show (0 : Int32) < Int32.ofNat N
      rw [Int32.lt_iff_toInt_lt, Int32.toInt_ofNat_of_lt hN, show (0 : Int32).toInt = 0 by decide]
      omega
  · rw [if_pos z]
    refine lv_iconst B.1 B.2.1 dJ15_indexOf_7 (v := -1) rfl ?_
    exact jret B rfl rfl dJ15_indexOf_8
theorem mj_ix2 {x : Int32} (hK : KF G s s.heap) (hS : va_S (gA G) s.heap H locs) (hk : k < 115) (hN : sLn k < 2 ^ 31) (hN0 : 0 < sLn k) : MJ l yIx2 cJ5_indexOf_2 3 (some .int) 2 s H [.ref (gS G k), .int x, .int 0] (some (.int (ixL (sBy k) x (sLn k)))) := by
  refine mj_of (by decide +kernel) (show 3 ≤ 3 by decide) ?_
  intro p e s' m below meth c la B hH hW hl
  subst hH
  have hK' := hK.move hW hS; obtain ⟨t, hO, hco, hva, hT⟩ := hK'.str hk; obtain ⟨zC, zS⟩ := hK'.sz; have hrec : ∃ cell : Cell, s'.heap[gS G k]? = some cell ∧ cell.vm.isStatics = false ∧ s'.vm.findClass Sj = some cell.cls := by obtain ⟨cell, h1, h2, h3, -⟩ := hO; exact ⟨cell, h1, h2, h3⟩
  refine lv_aload_n B.1 B.2.1 dJ5_indexOf_2_0 rfl (lv_at hl 0 rfl) ?_
  refine jV (As2 := []) (rest := []) (n := 0) B.fix hrec (mj_lat hK' va_S.rf hk) rfl q3526 q3527 q3528 q527 q3529 ⟨by decide, by decide, by decide +kernel⟩ rfl (by decide) (by decide) ⟨Nat.le_refl _, Nat.le_refl _⟩ hl.1 (Nat.zero_le _) dJ5_indexOf_2_1 ?_
  refine lv_if_eq (tgt := 23) B.1 B.2.1 dJ5_indexOf_2_4 rfl (fun z => absurd z (by decide)) (fun _ => ?_)
  refine lv_aload_n B.1 B.2.1 dJ5_indexOf_2_7 rfl (lv_at hl 0 rfl) ?_
  refine vk_getf (own := Sj) (ref := Sj) B.1 B.2.1 hva va_S.rf B.2.2.2.1 (B.2.2.2.2.1 _ q6168) (fun _ z => z) dJ5_indexOf_2_8 ?_
  refine lv_iload_n B.1 B.2.1 dJ5_indexOf_2_11 rfl (lv_at hl 1 rfl) ?_
  refine lv_iload_n B.1 B.2.1 dJ5_indexOf_2_12 rfl (lv_at hl 2 rfl) ?_
  refine lv_aload_n B.1 B.2.1 dJ5_indexOf_2_13 rfl (lv_at hl 0 rfl) ?_
  refine jV (As2 := []) (rest := [.int 0, .int x, .ref t]) (n := 0) B.fix hrec (mj_len hK' va_S.rf hk) rfl q5461 q3513 q3514 q527 q3515 ⟨by decide, by decide, by decide +kernel⟩ rfl (by decide) (by decide) ⟨Nat.le_refl _, Nat.le_refl _⟩ hl.1 (show 3 ≤ 8 by decide) dJ5_indexOf_2_14 ?_
  refine jS (As2 := [.ref t, .int x, .int 0, .int (Int32.ofNat (sLn k))]) (rest := []) (n := 4) B.fix (mj_lix va_S.rf hT hN hN0) q5462 q5463 q563 q5464 ⟨by decide, by decide, by decide +kernel⟩ rfl (by decide) (by decide) ⟨Nat.le_refl _, Nat.le_refl _⟩ hl.1 (Nat.zero_le _) dJ5_indexOf_2_17 ?_
  refine lv_goto (tgt := 36) B.1 B.2.1 dJ5_indexOf_2_20 rfl ?_
  exact jret B rfl rfl dJ5_indexOf_2_36
theorem mj_ix1 {x : Int32} (hK : KF G s s.heap) (hS : va_S (gA G) s.heap H locs) (hk : k < 115) (hN : sLn k < 2 ^ 31) (hN0 : 0 < sLn k) : MJ l yIx1 cJ5_indexOf 2 (some .int) 3 s H [.ref (gS G k), .int x] (some (.int (ixL (sBy k) x (sLn k)))) := by
  refine mj_of (by decide +kernel) (show 2 ≤ 2 by decide) ?_
  intro p e s' m below meth c la B hH hW hl
  subst hH
  have hK' := hK.move hW hS; obtain ⟨t, hO, hco, hva, hT⟩ := hK'.str hk; obtain ⟨zC, zS⟩ := hK'.sz; have hrec : ∃ cell : Cell, s'.heap[gS G k]? = some cell ∧ cell.vm.isStatics = false ∧ s'.vm.findClass Sj = some cell.cls := by obtain ⟨cell, h1, h2, h3, -⟩ := hO; exact ⟨cell, h1, h2, h3⟩
  refine lv_aload_n B.1 B.2.1 dJ5_indexOf_0 rfl (lv_at hl 0 rfl) ?_
  refine lv_iload_n B.1 B.2.1 dJ5_indexOf_1 rfl (lv_at hl 1 rfl) ?_
  refine lv_iconst B.1 B.2.1 dJ5_indexOf_2 (v := 0) rfl ?_
  refine jV (As2 := [.int x, .int 0]) (rest := []) (n := 2) B.fix hrec (mj_ix2 hK' va_S.rf hk hN hN0) rfl q5457 q5458 q5459 q527 q5460 ⟨by decide, by decide, by decide +kernel⟩ rfl (by decide) (by decide) ⟨Nat.le_refl _, Nat.le_refl _⟩ hl.1 (Nat.zero_le _) dJ5_indexOf_3 ?_
  exact jret B rfl rfl dJ5_indexOf_6
end
