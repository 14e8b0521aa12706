/-! SOUND 3: instructions that leave the heap alone -/
set_option maxRecDepth 100000
/-- a step of the frame alone -/
def WS (cc : ByteArray) (pc nx : Nat) (s1 s2 : List Value) : Prop := ∀ (p : Program) (l : Launch) (e : Env) (R : Room) (s : State) (m : MethodId) (args : Array Value) (below : List Frame) (meth : Method) (c : Code) (H : Heap) (locs : List Loc) (cells slots : Nat) (Q : State → Prop) (la : Array Slot),
  p.tables.exec = Jvm.exec → c.code = cc → W p l e R s m args below meth c H locs cells slots Q (F0 m nx la s2) → W p l e R s m args below meth c H locs cells slots Q (F0 m pc la s1)
theorem ss_stack {l : Launch} {m pc : Nat} {cc : ByteArray} {f : SF} (eb : (miT m).2.1 = cc)
    (hf : ∀ C K T ls st h, f C K T ls st h → ∃ (nx : Nat) (st' : List Value), K nx ls st' h ∧ (vokL h st → vokL h st') ∧ ∀ (G : GX) (loc : Nat → Nat), WS cc pc nx (st.map (cv G loc)) (st'.map (cv G loc))) : SS l m pc f := by
  intro d ls st h Q C' K' T' hC hK hT H
  obtain ⟨nx, st', hk, hv, hw⟩ := hf _ _ _ _ _ _ H
  obtain ⟨o, h', hs, hq⟩ := hK _ _ _ _ hk
  refine ⟨o, h', SM.pure hs (fun z => z) (fun _ a b => ⟨a, hv b⟩) ?_, hq⟩
  intro p e s mm args below meth c G F R QQ loc HH locs cells slots la hr hS hl v1 v2 hz hla kk
  exact hw G loc p l e R s mm args below meth c HH locs cells slots QQ la F.1 (F.2.1.trans eb) (kk la hla)
section
variable {l : Launch} {m pc : Nat} {cc : ByteArray}
theorem ss_push {v : Value} {nx : Nat} (eb : (miT m).2.1 = cc) (hv : ∀ h, vok h v) (hw : ∀ (G : GX) (loc : Nat → Nat) (r : List Value), WS cc pc nx r (cv G loc v :: r)) : SS l m pc (op_c v nx) :=
  ss_stack eb fun C K T ls st h H => ⟨nx, v :: st, H, fun b => vokL_c (hv h) b, fun G loc => hw G loc _⟩
theorem ss_iconst {n : Int} {v : Int32} (eb : (miT m).2.1 = cc) (hd : decode cc pc = .ok (.iconst n, 1)) (hv : Int32.ofInt n = v) : SS l m pc (op_c (.int v) (pc + 1)) :=
  ss_push eb (fun _ => trivial) (fun G loc r p l e R s mm args below meth c Hh locs cells slots Q la hx hb k => lv_iconst hx hb hd hv k)
theorem ss_bipush {n : Int} {v : Int32} (eb : (miT m).2.1 = cc) (hd : decode cc pc = .ok (.bipush n, 2)) (hv : (Int8.ofInt n).toInt32 = v) : SS l m pc (op_c (.int v) (pc + 2)) :=
  ss_push eb (fun _ => trivial) (fun G loc r p l e R s mm args below meth c Hh locs cells slots Q la hx hb k => lv_bipush hx hb hd hv k)
theorem ss_sipush {n : Int} {v : Int32} (eb : (miT m).2.1 = cc) (hd : decode cc pc = .ok (.sipush n, 3)) (hv : (Int16.ofInt n).toInt32 = v) : SS l m pc (op_c (.int v) (pc + 3)) :=
  ss_push eb (fun _ => trivial) (fun G loc r p l e R s mm args below meth c Hh locs cells slots Q la hx hb k => lv_sipush hx hb hd hv k)
theorem ss_lconst {n : Fin 2} {v : Int64} (eb : (miT m).2.1 = cc) (hd : decode cc pc = .ok (.lconst n, 1)) (hv : Int64.ofNat (n : Nat) = v) : SS l m pc (op_c (.long v) (pc + 1)) :=
  ss_push eb (fun _ => trivial) (fun G loc r p l e R s mm args below meth c Hh locs cells slots Q la hx hb k => lv_lconst hx hb hd hv k)
theorem ss_null (eb : (miT m).2.1 = cc) (hd : decode cc pc = .ok (.aconst_null, 1)) : SS l m pc (op_c (.ref 0) (pc + 1)) :=
  ss_push eb (fun _ => Or.inl rfl) (fun G loc r p l e R s mm args below meth c Hh locs cells slots Q la hx hb k => lv_null hx hb hd k)
theorem ss_iadd (eb : (miT m).2.1 = cc) (hd : decode cc pc = .ok (.iadd, 1)) : SS l m pc (op_ii (fun x y => x + y) (pc + 1)) := by
  refine ss_stack eb fun C K T ls st h H => ?_
  unfold op_ii at H
  split at H
  · exact ⟨_, _, H, fun b => vokL_c trivial (vokL_t (vokL_t b)), fun G loc p l e R s mm args below meth c Hh locs cells slots Q la hx hb k => lv_iadd hx hb hd k⟩
  · exact H.elim
theorem ss_isub (eb : (miT m).2.1 = cc) (hd : decode cc pc = .ok (.isub, 1)) : SS l m pc (op_ii (fun x y => x - y) (pc + 1)) := by
  refine ss_stack eb fun C K T ls st h H => ?_
  unfold op_ii at H
  split at H
  · exact ⟨_, _, H, fun b => vokL_c trivial (vokL_t (vokL_t b)), fun G loc p l e R s mm args below meth c Hh locs cells slots Q la hx hb k => lv_isub hx hb hd k⟩
  · exact H.elim
theorem ss_imul (eb : (miT m).2.1 = cc) (hd : decode cc pc = .ok (.imul, 1)) : SS l m pc (op_ii (fun x y => x * y) (pc + 1)) := by
  refine ss_stack eb fun C K T ls st h H => ?_
  unfold op_ii at H
  split at H
  · exact ⟨_, _, H, fun b => vokL_c trivial (vokL_t (vokL_t b)), fun G loc p l e R s mm args below meth c Hh locs cells slots Q la hx hb k => lv_imul hx hb hd k⟩
  · exact H.elim
theorem ss_iand (eb : (miT m).2.1 = cc) (hd : decode cc pc = .ok (.iand, 1)) : SS l m pc (op_ii (fun x y => x &&& y) (pc + 1)) := by
  refine ss_stack eb fun C K T ls st h H => ?_
  unfold op_ii at H
  split at H
  · exact ⟨_, _, H, fun b => vokL_c trivial (vokL_t (vokL_t b)), fun G loc p l e R s mm args below meth c Hh locs cells slots Q la hx hb k => lv_iand hx hb hd k⟩
  · exact H.elim
theorem ss_ior (eb : (miT m).2.1 = cc) (hd : decode cc pc = .ok (.ior, 1)) : SS l m pc (op_ii (fun x y => x ||| y) (pc + 1)) := by
  refine ss_stack eb fun C K T ls st h H => ?_
  unfold op_ii at H
  split at H
  · exact ⟨_, _, H, fun b => vokL_c trivial (vokL_t (vokL_t b)), fun G loc p l e R s mm args below meth c Hh locs cells slots Q la hx hb k => lv_ior hx hb hd k⟩
  · exact H.elim
theorem ss_ixor (eb : (miT m).2.1 = cc) (hd : decode cc pc = .ok (.ixor, 1)) : SS l m pc (op_ii (fun x y => x ^^^ y) (pc + 1)) := by
  refine ss_stack eb fun C K T ls st h H => ?_
  unfold op_ii at H
  split at H
  · exact ⟨_, _, H, fun b => vokL_c trivial (vokL_t (vokL_t b)), fun G loc p l e R s mm args below meth c Hh locs cells slots Q la hx hb k => lv_ixor hx hb hd k⟩
  · exact H.elim
theorem ss_ishl (eb : (miT m).2.1 = cc) (hd : decode cc pc = .ok (.ishl, 1)) : SS l m pc (op_ii zshl (pc + 1)) := by
  refine ss_stack eb fun C K T ls st h H => ?_
  unfold op_ii at H
  split at H
  · exact ⟨_, _, H, fun b => vokL_c trivial (vokL_t (vokL_t b)), fun G loc p l e R s mm args below meth c Hh locs cells slots Q la hx hb k => lv_ishl hx hb hd k⟩
  · exact H.elim
theorem ss_ishr (eb : (miT m).2.1 = cc) (hd : decode cc pc = .ok (.ishr, 1)) : SS l m pc (op_ii zshr (pc + 1)) := by
  refine ss_stack eb fun C K T ls st h H => ?_
  unfold op_ii at H
  split at H
  · exact ⟨_, _, H, fun b => vokL_c trivial (vokL_t (vokL_t b)), fun G loc p l e R s mm args below meth c Hh locs cells slots Q la hx hb k => lv_ishr hx hb hd k⟩
  · exact H.elim
theorem ss_iushr (eb : (miT m).2.1 = cc) (hd : decode cc pc = .ok (.iushr, 1)) : SS l m pc (op_ii zush (pc + 1)) := by
  refine ss_stack eb fun C K T ls st h H => ?_
  unfold op_ii at H
  split at H
  · exact ⟨_, _, H, fun b => vokL_c trivial (vokL_t (vokL_t b)), fun G loc p l e R s mm args below meth c Hh locs cells slots Q la hx hb k => lv_iushr hx hb hd rfl k⟩
  · exact H.elim
theorem ss_ladd (eb : (miT m).2.1 = cc) (hd : decode cc pc = .ok (.ladd, 1)) : SS l m pc (op_ll2 (fun x y => x + y) (pc + 1)) := by
  refine ss_stack eb fun C K T ls st h H => ?_
  unfold op_ll2 at H
  split at H
  · exact ⟨_, _, H, fun b => vokL_c trivial (vokL_t (vokL_t b)), fun G loc p l e R s mm args below meth c Hh locs cells slots Q la hx hb k => lv_ladd hx hb hd k⟩
  · exact H.elim
theorem ss_lsub (eb : (miT m).2.1 = cc) (hd : decode cc pc = .ok (.lsub, 1)) : SS l m pc (op_ll2 (fun x y => x - y) (pc + 1)) := by
  refine ss_stack eb fun C K T ls st h H => ?_
  unfold op_ll2 at H
  split at H
  · exact ⟨_, _, H, fun b => vokL_c trivial (vokL_t (vokL_t b)), fun G loc p l e R s mm args below meth c Hh locs cells slots Q la hx hb k => lv_lsub hx hb hd k⟩
  · exact H.elim
theorem ss_lmul (eb : (miT m).2.1 = cc) (hd : decode cc pc = .ok (.lmul, 1)) : SS l m pc (op_ll2 (fun x y => x * y) (pc + 1)) := by
  refine ss_stack eb fun C K T ls st h H => ?_
  unfold op_ll2 at H
  split at H
  · exact ⟨_, _, H, fun b => vokL_c trivial (vokL_t (vokL_t b)), fun G loc p l e R s mm args below meth c Hh locs cells slots Q la hx hb k => lv_lmul hx hb hd k⟩
  · exact H.elim
theorem ss_land (eb : (miT m).2.1 = cc) (hd : decode cc pc = .ok (.land, 1)) : SS l m pc (op_ll2 (fun x y => x &&& y) (pc + 1)) := by
  refine ss_stack eb fun C K T ls st h H => ?_
  unfold op_ll2 at H
  split at H
  · exact ⟨_, _, H, fun b => vokL_c trivial (vokL_t (vokL_t b)), fun G loc p l e R s mm args below meth c Hh locs cells slots Q la hx hb k => lv_land hx hb hd k⟩
  · exact H.elim
theorem ss_lor (eb : (miT m).2.1 = cc) (hd : decode cc pc = .ok (.lor, 1)) : SS l m pc (op_ll2 (fun x y => x ||| y) (pc + 1)) := by
  refine ss_stack eb fun C K T ls st h H => ?_
  unfold op_ll2 at H
  split at H
  · exact ⟨_, _, H, fun b => vokL_c trivial (vokL_t (vokL_t b)), fun G loc p l e R s mm args below meth c Hh locs cells slots Q la hx hb k => lv_lor hx hb hd k⟩
  · exact H.elim
theorem ss_lxor (eb : (miT m).2.1 = cc) (hd : decode cc pc = .ok (.lxor, 1)) : SS l m pc (op_ll2 (fun x y => x ^^^ y) (pc + 1)) := by
  refine ss_stack eb fun C K T ls st h H => ?_
  unfold op_ll2 at H
  split at H
  · exact ⟨_, _, H, fun b => vokL_c trivial (vokL_t (vokL_t b)), fun G loc p l e R s mm args below meth c Hh locs cells slots Q la hx hb k => lv_lxor hx hb hd k⟩
  · exact H.elim
theorem ss_lshl (eb : (miT m).2.1 = cc) (hd : decode cc pc = .ok (.lshl, 1)) : SS l m pc (op_lsh zlsl (pc + 1)) := by
  refine ss_stack eb fun C K T ls st h H => ?_
  unfold op_lsh at H
  split at H
  · exact ⟨_, _, H, fun b => vokL_c trivial (vokL_t (vokL_t b)), fun G loc p l e R s mm args below meth c Hh locs cells slots Q la hx hb k => lv_lshl hx hb hd rfl k⟩
  · exact H.elim
theorem ss_lshr (eb : (miT m).2.1 = cc) (hd : decode cc pc = .ok (.lshr, 1)) : SS l m pc (op_lsh zlsr (pc + 1)) := by
  refine ss_stack eb fun C K T ls st h H => ?_
  unfold op_lsh at H
  split at H
  · exact ⟨_, _, H, fun b => vokL_c trivial (vokL_t (vokL_t b)), fun G loc p l e R s mm args below meth c Hh locs cells slots Q la hx hb k => lv_lshr hx hb hd rfl k⟩
  · exact H.elim
theorem ss_lushr (eb : (miT m).2.1 = cc) (hd : decode cc pc = .ok (.lushr, 1)) : SS l m pc (op_lsh zlus (pc + 1)) := by
  refine ss_stack eb fun C K T ls st h H => ?_
  unfold op_lsh at H
  split at H
  · exact ⟨_, _, H, fun b => vokL_c trivial (vokL_t (vokL_t b)), fun G loc p l e R s mm args below meth c Hh locs cells slots Q la hx hb k => lv_lushr hx hb hd rfl k⟩
  · exact H.elim
theorem tm_rng {a b : Int} {M : Int} (h1 : -M ≤ a) (h2 : a < M) : -M ≤ a.tmod b ∧ a.tmod b < M := by
  have h3 : (a.tmod b).natAbs ≤ a.natAbs := by
    rw [Int.natAbs_tmod]
    exact Nat.mod_le _ _
  by_cases h4 : 0 ≤ a
  · have := Int.tmod_nonneg b h4
    omega
  · have h5 := Int.tmod_nonneg b (a := -a) (by omega)
    rw [Int.neg_tmod] at h5
    omega
theorem i_rem (x y : Int32) : x - x / y * y = x % y := by
  apply Int32.toInt_inj.mp
  rw [Int32.toInt_sub, Int32.toInt_mul, Int32.toInt_div, Int32.toInt_mod]
  simp only [Int.sub_bmod_bmod, Int.bmod_mul_bmod]
  rw [show x.toInt - x.toInt.tdiv y.toInt * y.toInt = x.toInt.tmod y.toInt by have := Int.tdiv_mul_add_tmod x.toInt y.toInt; omega]
  have h := tm_rng (b := y.toInt) (M := 2147483648) (Int32.le_toInt x) (Int32.toInt_lt x)
  rw [Int.bmod_def]
  split <;> omega
theorem l_rem (x y : Int64) : x - x / y * y = x % y := by
  apply Int64.toInt_inj.mp
  rw [Int64.toInt_sub, Int64.toInt_mul, Int64.toInt_div, Int64.toInt_mod]
  simp only [Int.sub_bmod_bmod, Int.bmod_mul_bmod]
  rw [show x.toInt - x.toInt.tdiv y.toInt * y.toInt = x.toInt.tmod y.toInt by have := Int.tdiv_mul_add_tmod x.toInt y.toInt; omega]
  have h := tm_rng (b := y.toInt) (M := 9223372036854775808) (Int64.le_toInt x) (Int64.toInt_lt x)
  rw [Int.bmod_def]
  split <;> omega
theorem ss_idiv (eb : (miT m).2.1 = cc) (hd : decode cc pc = .ok (.idiv, 1)) : SS l m pc (op_id (fun x y => x / y) (pc + 1)) := by
  refine ss_stack eb fun C K T ls st h H => ?_
  unfold op_id at H
  split at H
  · exact ⟨_, _, H.2, fun b => vokL_c trivial (vokL_t (vokL_t b)), fun G loc p l e R s mm args below meth c Hh locs cells slots Q la hx hb k => lv_idiv hx hb hd H.1 k⟩
  · exact H.elim
theorem ss_irem (eb : (miT m).2.1 = cc) (hd : decode cc pc = .ok (.irem, 1)) : SS l m pc (op_id (fun x y => x % y) (pc + 1)) := by
  refine ss_stack eb fun C K T ls st h H => ?_
  unfold op_id at H
  split at H
  · exact ⟨_, _, H.2, fun b => vokL_c trivial (vokL_t (vokL_t b)), fun G loc p l e R s mm args below meth c Hh locs cells slots Q la hx hb k => lv_irem hx hb hd H.1 (by rw [i_rem]; exact k)⟩
  · exact H.elim
theorem ss_ldiv (eb : (miT m).2.1 = cc) (hd : decode cc pc = .ok (.ldiv, 1)) : SS l m pc (op_ld (fun x y => x / y) (pc + 1)) := by
  refine ss_stack eb fun C K T ls st h H => ?_
  unfold op_ld at H
  split at H
  · exact ⟨_, _, H.2, fun b => vokL_c trivial (vokL_t (vokL_t b)), fun G loc p l e R s mm args below meth c Hh locs cells slots Q la hx hb k => lv_ldiv hx hb hd H.1 k⟩
  · exact H.elim
theorem ss_lrem (eb : (miT m).2.1 = cc) (hd : decode cc pc = .ok (.lrem, 1)) : SS l m pc (op_ld (fun x y => x % y) (pc + 1)) := by
  refine ss_stack eb fun C K T ls st h H => ?_
  unfold op_ld at H
  split at H
  · exact ⟨_, _, H.2, fun b => vokL_c trivial (vokL_t (vokL_t b)), fun G loc p l e R s mm args below meth c Hh locs cells slots Q la hx hb k => lv_lrem hx hb hd H.1 (by rw [l_rem]; exact k)⟩
  · exact H.elim
theorem ss_ineg (eb : (miT m).2.1 = cc) (hd : decode cc pc = .ok (.ineg, 1)) : SS l m pc (op_i1 (fun x => -x) (pc + 1)) := by
  refine ss_stack eb fun C K T ls st h H => ?_
  unfold op_i1 at H
  split at H
  · exact ⟨_, _, H, fun b => vokL_c trivial (vokL_t b), fun G loc p l e R s mm args below meth c Hh locs cells slots Q la hx hb k => lv_ineg hx hb hd k⟩
  · exact H.elim
theorem ss_i2b (eb : (miT m).2.1 = cc) (hd : decode cc pc = .ok (.i2b, 1)) : SS l m pc (op_i1 (fun x => x.toInt8.toInt32) (pc + 1)) := by
  refine ss_stack eb fun C K T ls st h H => ?_
  unfold op_i1 at H
  split at H
  · exact ⟨_, _, H, fun b => vokL_c trivial (vokL_t b), fun G loc p l e R s mm args below meth c Hh locs cells slots Q la hx hb k => lv_i2b hx hb hd rfl k⟩
  · exact H.elim
theorem ss_lneg (eb : (miT m).2.1 = cc) (hd : decode cc pc = .ok (.lneg, 1)) : SS l m pc (op_l1 (fun x => -x) (pc + 1)) := by
  refine ss_stack eb fun C K T ls st h H => ?_
  unfold op_l1 at H
  split at H
  · exact ⟨_, _, H, fun b => vokL_c trivial (vokL_t b), fun G loc p l e R s mm args below meth c Hh locs cells slots Q la hx hb k => lv_lneg hx hb hd k⟩
  · exact H.elim
theorem ss_i2l (eb : (miT m).2.1 = cc) (hd : decode cc pc = .ok (.i2l, 1)) : SS l m pc (op_i2l  (pc + 1)) := by
  refine ss_stack eb fun C K T ls st h H => ?_
  unfold op_i2l at H
  split at H
  · exact ⟨_, _, H, fun b => vokL_c trivial (vokL_t b), fun G loc p l e R s mm args below meth c Hh locs cells slots Q la hx hb k => lv_i2l hx hb hd rfl k⟩
  · exact H.elim
theorem ss_l2i (eb : (miT m).2.1 = cc) (hd : decode cc pc = .ok (.l2i, 1)) : SS l m pc (op_l2i  (pc + 1)) := by
  refine ss_stack eb fun C K T ls st h H => ?_
  unfold op_l2i at H
  split at H
  · exact ⟨_, _, H, fun b => vokL_c trivial (vokL_t b), fun G loc p l e R s mm args below meth c Hh locs cells slots Q la hx hb k => lv_l2i hx hb hd rfl k⟩
  · exact H.elim
theorem ss_eq0 {off : Int} {t : Nat} (eb : (miT m).2.1 = cc) (hd : decode cc pc = .ok (.ifCond .eq off, 3)) (ht : (pc : Int) + off = (t : Int)) : SS l m pc (op_eq0 t (pc + 3)) := by
  refine ss_stack eb fun C K T ls st h H => ?_
  unfold op_eq0 at H
  split at H
  · rename_i x st
    by_cases hc : x = 0
    · exact ⟨_, _, H.1 hc, fun b => vokL_t b, fun G loc p l e R s mm args below meth c Hh locs cells slots Q la hx hb k => lv_if_eq hx hb hd ht (fun _ => k) (fun z => absurd hc z)⟩
    · exact ⟨_, _, H.2 hc, fun b => vokL_t b, fun G loc p l e R s mm args below meth c Hh locs cells slots Q la hx hb k => lv_if_eq hx hb hd ht (fun z => absurd z hc) (fun _ => k)⟩
  · exact H.elim
theorem ss_eqi {off : Int} {t : Nat} (eb : (miT m).2.1 = cc) (hd : decode cc pc = .ok (.if_icmp .eq off, 3)) (ht : (pc : Int) + off = (t : Int)) : SS l m pc (op_eqi t (pc + 3)) := by
  refine ss_stack eb fun C K T ls st h H => ?_
  unfold op_eqi at H
  split at H
  · rename_i y x st
    by_cases hc : x = y
    · exact ⟨_, _, H.1 hc, fun b => vokL_t (vokL_t b), fun G loc p l e R s mm args below meth c Hh locs cells slots Q la hx hb k => lv_icmp_eq hx hb hd ht (fun _ => k) (fun z => absurd hc z)⟩
    · exact ⟨_, _, H.2 hc, fun b => vokL_t (vokL_t b), fun G loc p l e R s mm args below meth c Hh locs cells slots Q la hx hb k => lv_icmp_eq hx hb hd ht (fun z => absurd z hc) (fun _ => k)⟩
  · exact H.elim
theorem ss_ne0 {off : Int} {t : Nat} (eb : (miT m).2.1 = cc) (hd : decode cc pc = .ok (.ifCond .ne off, 3)) (ht : (pc : Int) + off = (t : Int)) : SS l m pc (op_ne0 t (pc + 3)) := by
  refine ss_stack eb fun C K T ls st h H => ?_
  unfold op_ne0 at H
  split at H
  · rename_i x st
    by_cases hc : x = 0
    · exact ⟨_, _, H.1 hc, fun b => vokL_t b, fun G loc p l e R s mm args below meth c Hh locs cells slots Q la hx hb k => lv_if_ne hx hb hd ht (fun z => absurd hc z) (fun _ => k)⟩
    · exact ⟨_, _, H.2 hc, fun b => vokL_t b, fun G loc p l e R s mm args below meth c Hh locs cells slots Q la hx hb k => lv_if_ne hx hb hd ht (fun _ => k) (fun z => absurd z hc)⟩
  · exact H.elim
theorem ss_nei {off : Int} {t : Nat} (eb : (miT m).2.1 = cc) (hd : decode cc pc = .ok (.if_icmp .ne off, 3)) (ht : (pc : Int) + off = (t : Int)) : SS l m pc (op_nei t (pc + 3)) := by
  refine ss_stack eb fun C K T ls st h H => ?_
  unfold op_nei at H
  split at H
  · rename_i y x st
    by_cases hc : x = y
    · exact ⟨_, _, H.1 hc, fun b => vokL_t (vokL_t b), fun G loc p l e R s mm args below meth c Hh locs cells slots Q la hx hb k => lv_icmp_ne hx hb hd ht (fun z => absurd hc z) (fun _ => k)⟩
    · exact ⟨_, _, H.2 hc, fun b => vokL_t (vokL_t b), fun G loc p l e R s mm args below meth c Hh locs cells slots Q la hx hb k => lv_icmp_ne hx hb hd ht (fun _ => k) (fun z => absurd z hc)⟩
  · exact H.elim
theorem ss_lt0 {off : Int} {t : Nat} (eb : (miT m).2.1 = cc) (hd : decode cc pc = .ok (.ifCond .lt off, 3)) (ht : (pc : Int) + off = (t : Int)) : SS l m pc (op_lt0 t (pc + 3)) := by
  refine ss_stack eb fun C K T ls st h H => ?_
  unfold op_lt0 at H
  split at H
  · rename_i x st
    by_cases hc : x < 0
    · exact ⟨_, _, H.1 hc, fun b => vokL_t b, fun G loc p l e R s mm args below meth c Hh locs cells slots Q la hx hb k => lv_if_lt hx hb hd ht (fun _ => k) (fun z => absurd hc z)⟩
    · exact ⟨_, _, H.2 hc, fun b => vokL_t b, fun G loc p l e R s mm args below meth c Hh locs cells slots Q la hx hb k => lv_if_lt hx hb hd ht (fun z => absurd z hc) (fun _ => k)⟩
  · exact H.elim
theorem ss_lti {off : Int} {t : Nat} (eb : (miT m).2.1 = cc) (hd : decode cc pc = .ok (.if_icmp .lt off, 3)) (ht : (pc : Int) + off = (t : Int)) : SS l m pc (op_lti t (pc + 3)) := by
  refine ss_stack eb fun C K T ls st h H => ?_
  unfold op_lti at H
  split at H
  · rename_i y x st
    by_cases hc : x < y
    · exact ⟨_, _, H.1 hc, fun b => vokL_t (vokL_t b), fun G loc p l e R s mm args below meth c Hh locs cells slots Q la hx hb k => lv_icmp_lt hx hb hd ht (fun _ => k) (fun z => absurd hc z)⟩
    · exact ⟨_, _, H.2 hc, fun b => vokL_t (vokL_t b), fun G loc p l e R s mm args below meth c Hh locs cells slots Q la hx hb k => lv_icmp_lt hx hb hd ht (fun z => absurd z hc) (fun _ => k)⟩
  · exact H.elim
theorem ss_ge0 {off : Int} {t : Nat} (eb : (miT m).2.1 = cc) (hd : decode cc pc = .ok (.ifCond .ge off, 3)) (ht : (pc : Int) + off = (t : Int)) : SS l m pc (op_ge0 t (pc + 3)) := by
  refine ss_stack eb fun C K T ls st h H => ?_
  unfold op_ge0 at H
  split at H
  · rename_i x st
    by_cases hc : x < 0
    · exact ⟨_, _, H.1 hc, fun b => vokL_t b, fun G loc p l e R s mm args below meth c Hh locs cells slots Q la hx hb k => lv_if_ge hx hb hd ht (fun z => absurd hc (Int32.not_lt.mpr z)) (fun _ => k)⟩
    · exact ⟨_, _, H.2 hc, fun b => vokL_t b, fun G loc p l e R s mm args below meth c Hh locs cells slots Q la hx hb k => lv_if_ge hx hb hd ht (fun _ => k) (fun z => absurd (Int32.not_le.mp z) hc)⟩
  · exact H.elim
theorem ss_gei {off : Int} {t : Nat} (eb : (miT m).2.1 = cc) (hd : decode cc pc = .ok (.if_icmp .ge off, 3)) (ht : (pc : Int) + off = (t : Int)) : SS l m pc (op_gei t (pc + 3)) := by
  refine ss_stack eb fun C K T ls st h H => ?_
  unfold op_gei at H
  split at H
  · rename_i y x st
    by_cases hc : x < y
    · exact ⟨_, _, H.1 hc, fun b => vokL_t (vokL_t b), fun G loc p l e R s mm args below meth c Hh locs cells slots Q la hx hb k => lv_icmp_ge hx hb hd ht (fun z => absurd hc (Int32.not_lt.mpr z)) (fun _ => k)⟩
    · exact ⟨_, _, H.2 hc, fun b => vokL_t (vokL_t b), fun G loc p l e R s mm args below meth c Hh locs cells slots Q la hx hb k => lv_icmp_ge hx hb hd ht (fun _ => k) (fun z => absurd (Int32.not_le.mp z) hc)⟩
  · exact H.elim
theorem ss_gt0 {off : Int} {t : Nat} (eb : (miT m).2.1 = cc) (hd : decode cc pc = .ok (.ifCond .gt off, 3)) (ht : (pc : Int) + off = (t : Int)) : SS l m pc (op_gt0 t (pc + 3)) := by
  refine ss_stack eb fun C K T ls st h H => ?_
  unfold op_gt0 at H
  split at H
  · rename_i x st
    by_cases hc : 0 < x
    · exact ⟨_, _, H.1 hc, fun b => vokL_t b, fun G loc p l e R s mm args below meth c Hh locs cells slots Q la hx hb k => lv_if_gt hx hb hd ht (fun _ => k) (fun z => absurd hc z)⟩
    · exact ⟨_, _, H.2 hc, fun b => vokL_t b, fun G loc p l e R s mm args below meth c Hh locs cells slots Q la hx hb k => lv_if_gt hx hb hd ht (fun z => absurd z hc) (fun _ => k)⟩
  · exact H.elim
theorem ss_gti {off : Int} {t : Nat} (eb : (miT m).2.1 = cc) (hd : decode cc pc = .ok (.if_icmp .gt off, 3)) (ht : (pc : Int) + off = (t : Int)) : SS l m pc (op_gti t (pc + 3)) := by
  refine ss_stack eb fun C K T ls st h H => ?_
  unfold op_gti at H
  split at H
  · rename_i y x st
    by_cases hc : y < x
    · exact ⟨_, _, H.1 hc, fun b => vokL_t (vokL_t b), fun G loc p l e R s mm args below meth c Hh locs cells slots Q la hx hb k => lv_icmp_gt hx hb hd ht (fun _ => k) (fun z => absurd hc z)⟩
    · exact ⟨_, _, H.2 hc, fun b => vokL_t (vokL_t b), fun G loc p l e R s mm args below meth c Hh locs cells slots Q la hx hb k => lv_icmp_gt hx hb hd ht (fun z => absurd z hc) (fun _ => k)⟩
  · exact H.elim
theorem ss_le0 {off : Int} {t : Nat} (eb : (miT m).2.1 = cc) (hd : decode cc pc = .ok (.ifCond .le off, 3)) (ht : (pc : Int) + off = (t : Int)) : SS l m pc (op_le0 t (pc + 3)) := by
  refine ss_stack eb fun C K T ls st h H => ?_
  unfold op_le0 at H
  split at H
  · rename_i x st
    by_cases hc : 0 < x
    · exact ⟨_, _, H.1 hc, fun b => vokL_t b, fun G loc p l e R s mm args below meth c Hh locs cells slots Q la hx hb k => lv_if_le hx hb hd ht (fun z => absurd hc (Int32.not_lt.mpr z)) (fun _ => k)⟩
    · exact ⟨_, _, H.2 hc, fun b => vokL_t b, fun G loc p l e R s mm args below meth c Hh locs cells slots Q la hx hb k => lv_if_le hx hb hd ht (fun _ => k) (fun z => absurd (Int32.not_le.mp z) hc)⟩
  · exact H.elim
theorem ss_lei {off : Int} {t : Nat} (eb : (miT m).2.1 = cc) (hd : decode cc pc = .ok (.if_icmp .le off, 3)) (ht : (pc : Int) + off = (t : Int)) : SS l m pc (op_lei t (pc + 3)) := by
  refine ss_stack eb fun C K T ls st h H => ?_
  unfold op_lei at H
  split at H
  · rename_i y x st
    by_cases hc : y < x
    · exact ⟨_, _, H.1 hc, fun b => vokL_t (vokL_t b), fun G loc p l e R s mm args below meth c Hh locs cells slots Q la hx hb k => lv_icmp_le hx hb hd ht (fun z => absurd hc (Int32.not_lt.mpr z)) (fun _ => k)⟩
    · exact ⟨_, _, H.2 hc, fun b => vokL_t (vokL_t b), fun G loc p l e R s mm args below meth c Hh locs cells slots Q la hx hb k => lv_icmp_le hx hb hd ht (fun _ => k) (fun z => absurd (Int32.not_le.mp z) hc)⟩
  · exact H.elim
theorem ss_goto {off : Int} {t : Nat} (eb : (miT m).2.1 = cc) (hd : decode cc pc = .ok (.goto off, 3)) (ht : (pc : Int) + off = (t : Int)) : SS l m pc (op_go t) :=
  ss_stack eb fun C K T ls st h H => ⟨t, st, H, fun b => b, fun G loc p l e R s mm args below meth c Hh locs cells slots Q la hx hb k => lv_goto hx hb hd ht k⟩
theorem cr_cases (G : GX) (loc : Nat → Nat) (a : Nat) : (a = 0 ∧ cr G loc a = .null) ∨ (a ≠ 0 ∧ ∃ q, cr G loc a = .ref q) := by
  unfold cr
  by_cases h : a = 0
  · exact Or.inl ⟨h, by simp [h]⟩
  · refine Or.inr ⟨h, ?_⟩
    simp only [h, if_false]
    split
    · exact ⟨_, rfl⟩
    · exact ⟨_, rfl⟩
theorem cr_cat (G : GX) (loc : Nat → Nat) (a : Nat) : (cr G loc a).category = 1 := by
  rcases cr_cases G loc a with ⟨-, h⟩ | ⟨-, q, h⟩ <;> rw [h] <;> rfl
theorem ss_dup (eb : (miT m).2.1 = cc) (hd : decode cc pc = .ok (.dup, 1)) : SS l m pc (op_dup (pc + 1)) := by
  refine ss_stack eb fun C K T ls st h H => ?_
  unfold op_dup at H
  split at H
  · exact ⟨_, _, H, fun b => vokL_c trivial b, fun G loc p l e R s mm args below meth c Hh locs cells slots Q la hx hb k => lv_dup hx hb hd rfl k⟩
  · exact ⟨_, _, H, fun b => vokL_c (vokL_h b) b, fun G loc p l e R s mm args below meth c Hh locs cells slots Q la hx hb k => lv_dup hx hb hd (cr_cat G loc _) k⟩
  · exact H.elim
theorem ss_dup2 (eb : (miT m).2.1 = cc) (hd : decode cc pc = .ok (.dup2, 1)) : SS l m pc (op_dup2 (pc + 1)) := by
  refine ss_stack eb fun C K T ls st h H => ?_
  unfold op_dup2 at H
  split at H
  · exact ⟨_, _, H, fun b => vokL_c trivial (vokL_c trivial b), fun G loc p l e R s mm args below meth c Hh locs cells slots Q la hx hb k => lv_dup2_11 hx hb hd rfl rfl k⟩
  · exact ⟨_, _, H, fun b => vokL_c trivial (vokL_c (vokL_h (vokL_t b)) b), fun G loc p l e R s mm args below meth c Hh locs cells slots Q la hx hb k => lv_dup2_11 hx hb hd rfl (cr_cat G loc _) k⟩
  · exact H.elim
theorem ss_dupl (eb : (miT m).2.1 = cc) (hd : decode cc pc = .ok (.dup2, 1)) : SS l m pc (op_dupl (pc + 1)) := by
  refine ss_stack eb fun C K T ls st h H => ?_
  unfold op_dupl at H
  split at H
  · exact ⟨_, _, H, fun b => vokL_c trivial b, fun G loc p l e R s mm args below meth c Hh locs cells slots Q la hx hb k => lv_dup2_2 hx hb hd rfl k⟩
  · exact H.elim
theorem ss_pop (eb : (miT m).2.1 = cc) (hd : decode cc pc = .ok (.pop, 1)) : SS l m pc (op_pop (pc + 1)) := by
  refine ss_stack eb fun C K T ls st h H => ?_
  unfold op_pop at H
  split at H
  · exact ⟨_, _, H, fun b => vokL_t b, fun G loc p l e R s mm args below meth c Hh locs cells slots Q la hx hb k => lv_pop hx hb hd rfl k⟩
  · exact ⟨_, _, H, fun b => vokL_t b, fun G loc p l e R s mm args below meth c Hh locs cells slots Q la hx hb k => lv_pop hx hb hd (cr_cat G loc _) k⟩
  · exact H.elim
theorem ss_popl (eb : (miT m).2.1 = cc) (hd : decode cc pc = .ok (.pop2, 1)) : SS l m pc (op_popl (pc + 1)) := by
  refine ss_stack eb fun C K T ls st h H => ?_
  unfold op_popl at H
  split at H
  · exact ⟨_, _, H, fun b => vokL_t b, fun G loc p l e R s mm args below meth c Hh locs cells slots Q la hx hb k => lv_pop2_2 hx hb hd rfl k⟩
  · exact H.elim
theorem ss_ifnull {off : Int} {t : Nat} (eb : (miT m).2.1 = cc) (hd : decode cc pc = .ok (.ifnull off, 3)) (ht : (pc : Int) + off = (t : Int)) : SS l m pc (op_nul t (pc + 3)) := by
  refine ss_stack eb fun C K T ls st h H => ?_
  unfold op_nul at H
  split at H
  · rename_i a st
    by_cases hc : a = 0
    · refine ⟨_, _, H.1 hc, fun b => vokL_t b, fun G loc p l e R s mm args below meth c Hh locs cells slots Q la hx hb k => ?_⟩
      have e : cv G loc (.ref a) = .null := by simp [cv, cr, hc]
      simp only [List.map_cons, e]
      exact lv_ifnullN hx hb hd ht k
    · refine ⟨_, _, H.2 hc, fun b => vokL_t b, fun G loc p l e R s mm args below meth c Hh locs cells slots Q la hx hb k => ?_⟩
      obtain ⟨q, e⟩ : ∃ q, cv G loc (.ref a) = .ref q := (cr_cases G loc a).elim (fun z => absurd z.1 hc) (fun z => z.2)
      simp only [List.map_cons, e]
      exact lv_ifnull hx hb hd k
  · exact H.elim
theorem ss_ifnonnull {off : Int} {t : Nat} (eb : (miT m).2.1 = cc) (hd : decode cc pc = .ok (.ifnonnull off, 3)) (ht : (pc : Int) + off = (t : Int)) : SS l m pc (op_nnl t (pc + 3)) := by
  refine ss_stack eb fun C K T ls st h H => ?_
  unfold op_nnl at H
  split at H
  · rename_i a st
    by_cases hc : a = 0
    · refine ⟨_, _, H.1 hc, fun b => vokL_t b, fun G loc p l e R s mm args below meth c Hh locs cells slots Q la hx hb k => ?_⟩
      have e : cv G loc (.ref a) = .null := by simp [cv, cr, hc]
      simp only [List.map_cons, e]
      exact lv_ifnonnullN hx hb hd k
    · refine ⟨_, _, H.2 hc, fun b => vokL_t b, fun G loc p l e R s mm args below meth c Hh locs cells slots Q la hx hb k => ?_⟩
      obtain ⟨q, e⟩ : ∃ q, cv G loc (.ref a) = .ref q := (cr_cases G loc a).elim (fun z => absurd z.1 hc) (fun z => z.2)
      simp only [List.map_cons, e]
      exact lv_ifnonnull hx hb hd ht k
  · exact H.elim
end
