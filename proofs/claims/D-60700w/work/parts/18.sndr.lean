/-! SOUND 27: the constructor with four arguments, up to Throwable's -/
set_option maxRecDepth 100000
abbrev D4 (cX : ClassId) (iS : Nat → Nat) : va_G := (fun _ => cX, fun _ => iS)
abbrev cl4 : List vw_C := [(RX38, TX38, 7)]
def Q4 (H : Heap) (b : Nat) (cX : ClassId) (iS : Nat → Nat) : Array Value → State → Outcome → State → Prop := fun _ _ oc t =>
  oc = .returned none ∧ (∃ fs : List Value, fs.length = 7 ∧ va_P (D4 cX iS) cl4 [(b, .inr (0, fs))] t.heap) ∧ H.size ≤ t.heap.size ∧ ∀ q, q < H.size → q ≠ b → t.heap[q]? = H[q]?
abbrev a4 (b : Nat) : List Value := [.ref b, .null, .null, .int 0, .int 0]
def C4 (l : Launch) (y : MethodName) (cc : ByteArray) (rm : Room) : Prop := ∀ (G : GX) (s : State) (H : Heap) (locs : List Loc) (b : Nat) (cX : ClassId) (iS : Nat → Nat) (fs : List Value),
  KF G s s.heap → va_S (gA G) s.heap H locs → gA G b → u_Kn s RX38 TX38 7 cX iS → va_P (D4 cX iS) cl4 [(b, .inr (0, fs))] H → fs.length = 7 →
  vx_Met l y (ws_ y cc 5 none) rm (PcC s H (a4 b)) (Q4 H b cX iS) (fun _ _ _ _ => False) 0 0 (fun q => q = b)
theorem K4 {s : State} {cX : ClassId} {iS : Nat → Nat} (h : u_Kn s RX38 TX38 7 cX iS) : va_K (D4 cX iS) cl4 [] s := ⟨fun k q hq => (by
    cases k with
    | zero => cases hq; exact h
    | succ k => cases hq), fun k q hq => (by cases hq)⟩
theorem D4o {b : Nat} {E : va_E} : va_D (fun q => q = b) [(b, E)] := ⟨fun i j x y hi hj _ => (by
    cases i with
    | zero =>
      cases j with
      | zero => rfl
      | succ j => cases hj
    | succ i => cases hi), fun k q hq => (by
    cases k with
    | zero => cases hq; rfl
    | succ k => cases hq)⟩
section
variable {l : Launch}
/-- a constructor that hands its arguments on -/
theorem met_P4 {y y2 : MethodName} {cc cc2 : ByteArray} {rm rm2 : Room} {ix : Nat} (hy : plainName y.cls = true) (h2 : C4 l y2 cc2 rm2) (hr1 : rm2.frames + 1 ≤ rm.frames) (hr2 : 24 + rm2.locals ≤ rm.locals) (hr3 : rm.cells = 0 ∧ rm.slots = 0 ∧ rm2.cells = 0 ∧ rm2.slots = 0)
    (d0 : decode cc 0 = .ok (.aload_n 0, 1)) (d1 : decode cc 1 = .ok (.aload_n 1, 1)) (d2 : decode cc 2 = .ok (.aload_n 2, 1)) (d3 : decode cc 3 = .ok (.iload_n 3, 1)) (d4 : decode cc 4 = .ok (.iload 4, 2)) (d6 : decode cc 6 = .ok (.invokespecial ix, 3)) (d9 : decode cc 9 = .ok (.return_, 1))
    (e2 : y2.name = "<init>") (w1 : Cond.methodLink y.cls ix y2 ∈ lw_all) (w2 : Cond.instanceMethod y2 ∈ lw_all) (w3 : Cond.initialized y2.cls ∈ lw_all) (w4 : Cond.code y2 cc2 5 none ∈ lw_all)
    (hdd : y2.cls ≠ "java/lang/invoke/MethodHandle" ∧ y2.cls ≠ "java/lang/invoke/VarHandle" ∧ (parseMethodDescriptor y2.desc).map (fun d => d.parameters.length) = some 4) : C4 l y cc rm := by
  intro G s H locs b cX iS fs hK hS hbA hKn hP hfs; refine vx_ofW (cc := cc) (maxL := 5) (ret := none) hy rfl ?_; intro p e s' m args below meth c s₁ B hml ht hPc; obtain ⟨rfl, hH, hW⟩ := hPc; have hts := atoms_spec (ws := ws_ y cc 5 none) B.pre; have hts : ∀ w ∈ lw_all, w.before (a4 b).toArray s' = true := fun w h => hts w (List.mem_cons_of_mem _ h); have hown := findClass_of_methodNamed B.named; have hK' := hK.move hW hS; have hKn' : u_Kn s' RX38 TX38 7 cX iS := u_Kn_moved hW.alike hKn; rw [← hH] at hK' hP; rw [lg_entry_eq]; have hl := lv_entry (a4 b) (n := 5) (show 5 ≤ 5 from Nat.le_refl 5); generalize ((lg_sl (a4 b) ++ List.replicate (5 - (lg_sl (a4 b)).length) Slot.unset).toArray) = la at hl
  refine lv_aload_n B.exec B.bytes d0 rfl (lv_at hl 0 rfl) ?_
  refine lv_aload_nN B.exec B.bytes d1 rfl (lv_at hl 1 rfl) ?_
  refine lv_aload_nN B.exec B.bytes d2 rfl (lv_at hl 2 rfl) ?_
  refine lv_iload_n B.exec B.bytes d3 rfl (lv_at hl 3 rfl) ?_
  refine lv_iload B.exec B.bytes d4 (lv_at hl 4 rfl) ?_
  have hM2 := h2 G s' s'.heap [] b cX iS fs hK' va_S.rf hbA hKn' hP hfs
  have hrun := vx_runI (R := rm) (cells := 0) (slots := 0) (locs := []) (e := e) (below := below) (meth := meth) (b := b) (As := [.null, .null, .int 0, .int 0]) (rest := []) (g := F0 m 6 la [.int 0, .int 0, .null, .null, .ref b]) ⟨B.exec, B.bytes, hml, hown, hts⟩ hM2 (cwI 4 hts (lw_meth w4) rfl hr3.2.2.1 hr3.2.2.2 (hts _ w3) (hts _ w1) (hts _ w2) e2 hdd ⟨hr1, by omega⟩) ⟨PcC_blind _ _ _, fun U hU hW => ⟨rfl, hU, hW⟩⟩ rfl rfl hl.1 rfl (by show 2 * 0 + 0 ≤ 8; omega) d6 ⟨Nat.zero_le _, Nat.zero_le _⟩
  intro T hT X
  rcases hrun T hT X with ⟨v', st₀, t, T', L, h0, X', hL, q1, q2, ⟨ho, ⟨fs', f1, f2⟩, hz1, hk1⟩, stp⟩ | ⟨_, _, _, _, _, _, _, _, _, _, _, _, hF, _⟩
  · have ho : v' = none := by injection ho
    subst ho
    have hv : W p l e rm s' m (a4 b).toArray below meth c T'.heap ([] ++ L) (0 + 0) (0 + 0) (vx_MQ below (Q4 H b cX iS) (fun _ _ _ _ => False) (a4 b).toArray s' 0 0 (fun q => q = b)) (F0 m 9 la []) :=
      vx_ret (W.vret B.exec B.bytes B.returns (fun t2 ht2 _ => ⟨rfl, ⟨fs', f1, by rw [ht2, q1]; exact f2⟩, by rw [ht2, q1, ← hH]; exact hz1, fun q h1 h2 => by rw [ht2, q1, ← hH]; exact hk1 q (by rw [hH]; exact h1) h2⟩) hL d9)
    obtain ⟨t2, a1, b1⟩ := hv T' rfl X'
    exact ⟨t2, stp t2 a1, b1⟩
  · exact hF.elim
theorem met_T4 {rm : Room} (hr1 : 3 ≤ rm.frames) (hr2 : 40 ≤ rm.locals) (hr3 : rm.cells = 0 ∧ rm.slots = 0) : C4 l yJ0_init_3 cJ0_init_3 rm := by
  have hy : plainName yJ0_init_3.cls = true := by decide +kernel
  let y := yJ0_init_3
  let cc := cJ0_init_3
  intro G s H locs b cX iS fs hK hS hbA hKn hP hfs; refine vx_ofW (cc := cc) (maxL := 5) (ret := none) hy rfl ?_; intro p e s' m args below meth c s₁ B hml ht hPc; obtain ⟨rfl, hH, hW⟩ := hPc; have hts := atoms_spec (ws := ws_ y cc 5 none) B.pre; have hts : ∀ w ∈ lw_all, w.before (a4 b).toArray s' = true := fun w h => hts w (List.mem_cons_of_mem _ h); have hown := findClass_of_methodNamed B.named; have hK' := hK.move hW hS; have hKn' : u_Kn s' RX38 TX38 7 cX iS := u_Kn_moved hW.alike hKn; rw [← hH] at hK' hP; rw [lg_entry_eq]; have hl := lv_entry (a4 b) (n := 5) (show 5 ≤ 5 from Nat.le_refl 5); generalize ((lg_sl (a4 b) ++ List.replicate (5 - (lg_sl (a4 b)).length) Slot.unset).toArray) = la at hl
  have hS0 : va_S (fun q => q = b) s'.heap s'.heap [] := va_S.rf
  have zU : va_Zq Bundle.tN "UNASSIGNED_STACK" Bundle.steD (fun q => q = b) s' s'.heap := hK'.2.2.2.2.1.1.narrow (fun q hq => by rw [hq]; exact hbA)
  have zN : va_Zq Bundle.tN "SUPPRESSED_SENTINEL" Bundle.listD (fun q => q = b) s' s'.heap := hK'.2.2.2.2.2.1.1.narrow (fun q hq => by rw [hq]; exact hbA)
  obtain ⟨vU, hvU, zU⟩ : ∃ v : Value, (v = .null ∨ ∃ t, v = .ref t) ∧ va_Z Bundle.tN "UNASSIGNED_STACK" Bundle.steD v (fun q => q = b) s' s'.heap := by
    rcases zU with z | ⟨t, z⟩
    · exact ⟨_, Or.inl rfl, z⟩
    · exact ⟨_, Or.inr ⟨t, rfl⟩, z⟩
  obtain ⟨vN, hvN, zN⟩ : ∃ v : Value, (v = .null ∨ ∃ t, v = .ref t) ∧ va_Z Bundle.tN "SUPPRESSED_SENTINEL" Bundle.listD v (fun q => q = b) s' s'.heap := by
    rcases zN with z | ⟨t, z⟩
    · exact ⟨_, Or.inl rfl, z⟩
    · exact ⟨_, Or.inr ⟨t, rfl⟩, z⟩
  have fA : ∀ (t : FieldType) (v : Value), (v = .null ∨ ∃ t, v = .ref t) → narrow (.array t) v = v ∧ fits (.array t) v = true := by
    rintro t v (rfl | ⟨t, rfl⟩) <;> exact ⟨rfl, rfl⟩
  have fO : ∀ (t : String) (v : Value), (v = .null ∨ ∃ t, v = .ref t) → narrow (.object t) v = v ∧ fits (.object t) v = true := by
    rintro t v (rfl | ⟨t, rfl⟩) <;> exact ⟨rfl, rfl⟩
  refine lv_aload_n B.exec B.bytes dJ0_init_3_0 rfl (lv_at hl 0 rfl) ?_
  refine W.objInit B.exec B.bytes hown (hts _ q1173) (hts _ q576) (hts _ q577) (g := F0 m 1 la [.ref b]) rfl (hl.1.trans hml.symm) rfl dJ0_init_3_1 (by show 1 ≤ rm.frames; omega) (by show 2 * 0 + 0 + 12 ≤ rm.locals; omega) ?_
  show W p l e _ s' m _ below meth c _ _ _ _ _ (F0 m 4 la [])
  refine lv_aload_n B.exec B.bytes dJ0_init_3_4 rfl (lv_at hl 0 rfl) ?_
  refine lv_aload_n B.exec B.bytes dJ0_init_3_5 rfl (lv_at hl 0 rfl) ?_
  refine va_put (ref := RJ0) (ty := .object "java/lang/Throwable") (v := .ref b) B.exec B.bytes hts in_X38 tyX38 tyX38_ok nmX38 hown (K4 hKn') hP D4o hS0 0 rfl rfl 0 (by decide) (hts _ q1201) (fun _ z => z) rfl (by decide +kernel) rfl rfl (by rw [hfs]; decide) dJ0_init_3_6 ?_
  intro H1 locs1 hP1 _ hS1
  refine lv_aload_n B.exec B.bytes dJ0_init_3_9 rfl (lv_at hl 0 rfl) ?_
  refine va_gets (own := RJ0) (ref := RJ0) B.exec B.bytes zU hS1 hown (hts _ q1174) (fun _ z => z) dJ0_init_3_10 ?_
  refine va_put (ref := RJ0) (ty := .array (.object "java/lang/StackTraceElement")) (v := vU) B.exec B.bytes hts in_X38 tyX38 tyX38_ok nmX38 hown (K4 hKn') hP1 D4o hS1 0 rfl rfl 1 (by decide) (hts _ q1202) (fun _ z => z) rfl (by decide +kernel) (fA _ _ hvU).1 (fA _ _ hvU).2 (by simp [hfs]) dJ0_init_3_13 ?_
  intro H2 locs2 hP2 _ hS2
  refine lv_aload_n B.exec B.bytes dJ0_init_3_16 rfl (lv_at hl 0 rfl) ?_
  refine va_gets (own := RJ0) (ref := RJ0) B.exec B.bytes zN hS2 hown (hts _ q1176) (fun _ z => z) dJ0_init_3_17 ?_
  refine va_put (ref := RJ0) (ty := .object "java/util/List") (v := vN) B.exec B.bytes hts in_X38 tyX38 tyX38_ok nmX38 hown (K4 hKn') hP2 D4o hS2 0 rfl rfl 2 (by decide) (hts _ q1203) (fun _ z => z) rfl (by decide +kernel) (fO _ _ hvN).1 (fO _ _ hvN).2 (by simp [hfs]) dJ0_init_3_20 ?_
  intro H3 locs3 hP3 _ hS3
  refine lv_iload B.exec B.bytes dJ0_init_3_23 (lv_at hl 4 rfl) ?_
  refine lv_if_eq (tgt := 36) B.exec B.bytes dJ0_init_3_25 rfl (fun _ => ?_) (fun z => absurd rfl z)
  refine lv_aload_n B.exec B.bytes dJ0_init_3_36 rfl (lv_at hl 0 rfl) ?_
  refine lv_null B.exec B.bytes dJ0_init_3_37 ?_
  refine va_put (ref := RJ0) (ty := .array (.object "java/lang/StackTraceElement")) (v := .null) B.exec B.bytes hts in_X38 tyX38 tyX38_ok nmX38 hown (K4 hKn') hP3 D4o hS3 0 rfl rfl 1 (by decide) (hts _ q1202) (fun _ z => z) rfl (by decide +kernel) rfl rfl (by simp [hfs]) dJ0_init_3_38 ?_
  intro H4 locs4 hP4 _ hS4
  refine lv_aload_n B.exec B.bytes dJ0_init_3_41 rfl (lv_at hl 0 rfl) ?_
  refine lv_aload_nN B.exec B.bytes dJ0_init_3_42 rfl (lv_at hl 1 rfl) ?_
  refine va_put (ref := RJ0) (ty := .object "java/lang/String") (v := .null) B.exec B.bytes hts in_X38 tyX38 tyX38_ok nmX38 hown (K4 hKn') hP4 D4o hS4 0 rfl rfl 3 (by decide) (hts _ q1200) (fun _ z => z) rfl (by decide +kernel) rfl rfl (by simp [hfs]) dJ0_init_3_43 ?_
  intro H5 locs5 hP5 _ hS5
  refine lv_aload_n B.exec B.bytes dJ0_init_3_46 rfl (lv_at hl 0 rfl) ?_
  refine lv_aload_nN B.exec B.bytes dJ0_init_3_47 rfl (lv_at hl 2 rfl) ?_
  refine va_put (ref := RJ0) (ty := .object "java/lang/Throwable") (v := .null) B.exec B.bytes hts in_X38 tyX38 tyX38_ok nmX38 hown (K4 hKn') hP5 D4o hS5 0 rfl rfl 0 (by decide) (hts _ q1201) (fun _ z => z) rfl (by decide +kernel) rfl rfl (by simp [hfs]) dJ0_init_3_48 ?_
  intro H6 locs6 hP6 _ hS6
  refine lv_iload_n B.exec B.bytes dJ0_init_3_51 rfl (lv_at hl 3 rfl) ?_
  refine lv_if_ne (tgt := 60) B.exec B.bytes dJ0_init_3_52 rfl (fun z => absurd rfl z) (fun _ => ?_)
  refine lv_aload_n B.exec B.bytes dJ0_init_3_55 rfl (lv_at hl 0 rfl) ?_
  refine lv_null B.exec B.bytes dJ0_init_3_56 ?_
  refine va_put (ref := RJ0) (ty := .object "java/util/List") (v := .null) B.exec B.bytes hts in_X38 tyX38 tyX38_ok nmX38 hown (K4 hKn') hP6 D4o hS6 0 rfl rfl 2 (by decide) (hts _ q1203) (fun _ z => z) rfl (by decide +kernel) rfl rfl (by simp [hfs]) dJ0_init_3_57 ?_
  intro H7 locs7 hP7 _ hS7
  refine vx_ret (W.vret B.exec B.bytes B.returns (fun t ht _ => ⟨rfl, ⟨_, And.symm ⟨by rw [ht]; exact hP7, by simp [hfs]⟩⟩, by rw [ht, ← hH]; exact hS7.1, fun q h1 h2 => by rw [ht, ← hH]; exact hS7.2.1 q (by rw [hH]; exact h1) h2⟩) hS7.2.2 dJ0_init_3_60)
end
theorem SlotIs.uniq {s : State} {a b d : String} {i j : Nat} (h1 : SlotIs s a b d i) (h2 : SlotIs s a b d j) : i = j := by
  obtain ⟨c1, k1, f1, g1, e1, e2⟩ := h1
  obtain ⟨c2, k2, f2, g2, e3, e4⟩ := h2
  rw [e1] at e3
  cases e3
  exact e2.symm.trans e4
section
variable {l : Launch}
theorem met_bk38 : BKM l RX38 TB48 ⟨RX38, "<init>", "(I)V"⟩ cX38_init := by
  intro G s args0 H locs b v cX kX iS hts0 hK hS hbA hkX hcell hKn
  refine vx_ofW (cc := cX38_init) (maxL := 2) (ret := none) (by decide +kernel) rfl ?_
  intro p e s' m args below meth c s₁ B hml ht hP
  obtain ⟨rfl, hH, hW⟩ := hP
  have hts : ∀ w ∈ ws_ ⟨RX38, "<init>", "(I)V"⟩ cX38_init 2 none, w.before #[.ref b, .int v] s' = true := atoms_spec (ws := ws_ ⟨RX38, "<init>", "(I)V"⟩ cX38_init 2 none) B.pre
  have hts : ∀ w ∈ lw_all, w.before #[.ref b, .int v] s' = true := fun w h => hts w (List.mem_cons_of_mem _ h)
  have hown : s'.vm.findClass RX38 = some m.cls := findClass_of_methodNamed B.named
  have hK' := hK.move hW hS
  rw [← hH] at hK' hcell
  obtain ⟨kX', hkX', heX⟩ := hW.alike.2.2 _ _ hkX
  have hcell' : s'.heap[b]? = some (blank cX kX') := by
    rw [hcell, heX]
    rfl
  have hKn' : u_Kn s' RX38 TB48 1 cX iS := u_Kn_moved hW.alike hKn
  obtain ⟨cC, iS7, hK7⟩ := u_known (T := TX38) (N := 7) hts in_X38 (hts _ q3100)
  have eC : cC = cX := Option.some.inj (hK7.2.1.symm.trans hKn'.2.1)
  subst eC
  have eP : iS 0 = iS7 6 := SlotIs.uniq (hKn'.1 0 (by decide)) (hK7.1 6 (by decide))
  have hPP : va_P (D4 cC iS7) cl4 [(b, .inr (0, (List.range 7).map (fun k => defaultValue (tyX38 k))))] s'.heap := by
    intro k q hq
    cases k with
    | zero =>
      cases hq
      refine ⟨_, rfl, (u_born tyX38 hts in_X38 hK7 hkX' hcell' tyX38_ok).to (fun j hj => ?_)⟩
      have hj : j < 7 := hj
      match j, hj with
      | 0, _ => rfl
      | 1, _ => rfl
      | 2, _ => rfl
      | 3, _ => rfl
      | 4, _ => rfl
      | 5, _ => rfl
      | 6, _ => rfl
    | succ k => cases hq
  rw [lg_entry_eq]
  have hl := lv_entry [.ref b, .int v] (n := 2) (show 2 ≤ 2 from Nat.le_refl 2)
  generalize ((lg_sl [Value.ref b, Value.int v] ++ List.replicate (2 - (lg_sl [Value.ref b, Value.int v]).length) Slot.unset).toArray) = la at hl
  refine lv_aload_n B.exec B.bytes dX38_init_0 rfl (lv_at hl 0 rfl) ?_
  refine lv_null B.exec B.bytes dX38_init_1 ?_
  refine lv_null B.exec B.bytes dX38_init_2 ?_
  refine lv_iconst B.exec B.bytes dX38_init_3 rfl ?_
  refine lv_iconst B.exec B.bytes dX38_init_4 rfl ?_
  have hC0 : C4 l yJ0_init_3 cJ0_init_3 { frames := 4, cells := 0, slots := 0, locals := 50 } := met_T4 (by decide) (by decide) ⟨rfl, rfl⟩
  have hC1 : C4 l yJ1_init_3 cJ1_init_3 { frames := 5, cells := 0, slots := 0, locals := 74 } := met_P4 (by decide +kernel) hC0 (by decide) (by decide) ⟨rfl, rfl, rfl, rfl⟩ dJ1_init_3_0 dJ1_init_3_1 dJ1_init_3_2 dJ1_init_3_3 dJ1_init_3_4 dJ1_init_3_6 dJ1_init_3_9 rfl q3117 q3118 q522 q3119 (by decide +kernel)
  have hC2 : C4 l yJ2_init_3 cJ2_init_3 { frames := 6, cells := 0, slots := 0, locals := 98 } := met_P4 (by decide +kernel) hC1 (by decide) (by decide) ⟨rfl, rfl, rfl, rfl⟩ dJ2_init_3_0 dJ2_init_3_1 dJ2_init_3_2 dJ2_init_3_3 dJ2_init_3_4 dJ2_init_3_6 dJ2_init_3_9 rfl q3114 q3115 q523 q3116 (by decide +kernel)
  have hM2 := hC2 G s' s'.heap [] b cC iS7 _ hK' va_S.rf hbA hK7 hPP (by simp)
  have hrun := vx_runI (R := rmB) (cells := 0) (slots := 0) (locs := []) (e := e) (below := below) (meth := meth) (b := b) (As := [.null, .null, .int 0, .int 0]) (rest := []) (g := F0 m 5 la [.int 0, .int 0, .null, .null, .ref b]) ⟨B.exec, B.bytes, hml, hown, hts⟩ hM2 (cwI 4 hts (lw_meth q3113) rfl rfl rfl (hts _ q524) (hts _ q3111) (hts _ q3112) rfl (by decide +kernel) ⟨by decide, by decide⟩) ⟨PcC_blind _ _ _, fun U hU hW => ⟨rfl, hU, hW⟩⟩ rfl rfl hl.1 rfl (by show 2 * 0 + 0 ≤ 8; omega) dX38_init_5 ⟨Nat.zero_le _, Nat.zero_le _⟩
  intro T hT X
  rcases hrun T hT X with ⟨v', st₀, t, T', L, h0, X', hL, q1, q2, ⟨ho, ⟨fs', f1, f2⟩, hz1, hk1⟩, stp⟩ | ⟨_, _, _, _, _, _, _, _, _, _, _, _, hF, _⟩
  · have ho : v' = none := by injection ho
    subst ho
    have hSS : va_S (fun q => q = b) s'.heap T'.heap ([] ++ L) := ⟨by rw [q1]; exact hz1, fun q h1 h2 => by rw [q1]; exact hk1 q h1 h2, hL⟩
    have hv : W p l e rmB s' m #[.ref b, .int v] below meth c T'.heap ([] ++ L) (0 + 0) (0 + 0) (vx_MQ below (QB H b cC (iS 0) v) (fun _ _ _ _ => False) #[.ref b, .int v] s' 0 0 (fun q => q = b)) (F0 m 8 la []) := by
      refine lv_aload_n B.exec B.bytes dX38_init_8 rfl (lv_at hl 0 rfl) ?_
      refine lv_iload_n B.exec B.bytes dX38_init_9 rfl (lv_at hl 1 rfl) ?_
      refine va_putF (ref := RX38) (ty := .int) (v := .int v) B.exec B.bytes hts in_X38 tyX38 tyX38_ok nmX38 hown (K4 hK7) (by rw [q1]; exact f2) D4o hSS 0 rfl rfl 6 (by decide) (hts _ q3120) (fun _ z => z) rfl (name_of_methodNamed B.named B.method).1 rfl (by decide +kernel) rfl rfl (by rw [f1]; decide) dX38_init_10 ?_
      intro H1 locs1 hP1 _ hS1
      refine vx_ret (W.vret B.exec B.bytes B.returns (fun t2 ht2 _ => ⟨rfl, ?_, by rw [ht2, ← hH]; exact hS1.1, fun q h1 h2 => by rw [ht2, ← hH]; exact hS1.2.1 q (by rw [hH]; exact h1) h2⟩) hS1.2.2 dX38_init_13)
      obtain ⟨kq, hkq, cell, r1, r2, r3, r4⟩ := hP1 0 _ rfl
      cases hkq
      refine ⟨cell, by rw [ht2]; exact r1, r2, r3, ?_⟩
      rw [eP]
      have := r4 6 (by decide)
      rw [this]
      show some (vp_V (fs'.set 6 (.int v)) 6) = _
      unfold vp_V
      simp [f1]
    obtain ⟨t2, a1, b1⟩ := hv T' rfl X'
    exact ⟨t2, stp t2 a1, b1⟩
  · exact hF.elim
end
