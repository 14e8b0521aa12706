/-! SOUND 26: exceptions of our own: their constructors, and new with a number -/
set_option maxRecDepth 100000
theorem pfd_I : parseFieldDescriptor "I" = some .int := by decide +kernel
theorem pmd_IV : (parseMethodDescriptor "(I)V").map (fun d => d.parameters.length) = some 1 := by decide +kernel
def QB (H : Heap) (b : Nat) (cX : ClassId) (iP : Nat) (v : Int32) : Array Value → State → Outcome → State → Prop := fun _ _ oc t =>
  oc = .returned none ∧ (∃ ce : Cell, t.heap[b]? = some ce ∧ ce.cls = cX ∧ ce.vm = .none ∧ ce.slots[iP]? = some (.int v)) ∧ H.size ≤ t.heap.size ∧ ∀ q, q < H.size → q ≠ b → t.heap[q]? = H[q]?
abbrev rmB : Room := { frames := 9, cells := 0, slots := 0, locals := 150 }
/-- the constructor y of the class obj, called on a fresh object, sets its number and nothing else that is ours -/
def BKM (l : Launch) (obj : String) (T : u_T) (y : MethodName) (cc : ByteArray) : Prop := ∀ (G : GX) (s : State) (args0 : Array Value) (H : Heap) (locs : List Loc) (b : Nat) (v : Int32) (cX : ClassId) (kX : Class) (iS : Nat → Nat),
  (∀ w ∈ lw_all, w.before args0 s = true) → KF G s s.heap → va_S (gA G) s.heap H locs → gA G b → s.vm.classes[cX]? = some kX → H[b]? = some (blank cX kX) → u_Kn s obj T 1 cX iS →
  vx_Met l y (ws_ y cc 2 none) rmB (PcC s H [.ref b, .int v]) (QB H b cX (iS 0) v) (fun _ _ _ _ => False) 0 0 (fun q => q = b)
theorem wOK.use {w : Cond} {args : Array Value} {s : State} (hts : ∀ w ∈ lw_all, w.before args s = true) (hn : ∀ w ∈ nwT, va_Nw w s) (h : w ∈ lw_all ∨ (w ∈ nwT ∧ w.onTables = true)) : w.before args s = true := by
  rcases h with h | h
  · exact hts w h
  · exact va_Nw.use h.2 (hn w h.1)
/-- all words of supA: those of the tables, and the four of the heap -/
theorem supA_all {args : Array Value} {s : State} {own obj cls : String} {names : List String} {ic : Nat} {A : Nat → Prop} (hts : ∀ w ∈ lw_all, w.before args s = true) (hn : ∀ w ∈ nwT, va_Nw w s) (hw : ∀ w ∈ supA own ic obj cls names, wOK w)
    (hU : vx_Zq Bundle.tN "UNASSIGNED_STACK" Bundle.steD A s s.heap) (hN : vx_Zq Bundle.tN "SUPPRESSED_SENTINEL" Bundle.listD A s s.heap) : ∀ w ∈ supA own ic obj cls names, w.before args s = true := by
  intro w h
  by_cases hno : vx_no w = true
  · exact wOK.use hts hn (hw w h hno)
  · by_cases e1 : w = Cond.isRef (Term.static Bundle.tN "UNASSIGNED_STACK" Bundle.steD)
    · rw [e1]; exact vx_isRefq hU.1
    by_cases e2 : w = Cond.isRef (Term.static Bundle.tN "SUPPRESSED_SENTINEL" Bundle.listD)
    · rw [e2]; exact vx_isRefq hN.1
    by_cases e3 : w = Cond.laysStatic Bundle.tN "UNASSIGNED_STACK" Bundle.steD
    · rw [e3]; exact hU.2.word
    by_cases e4 : w = Cond.laysStatic Bundle.tN "SUPPRESSED_SENTINEL" Bundle.listD
    · rw [e4]; exact hN.2.word
    exact (hno (by simp [vx_no, e1, e2, e3, e4])).elim
section
variable {l : Launch}
/-- a constructor that calls super(), and sets its number -/
theorem met_bk0 (hl0 : l.stackTraces = false) {obj fn : String} {T : u_T} {cc : ByteArray} {ix ip : Nat} (hy : plainName obj = true)
    (d0 : decode cc 0 = .ok (.aload_n 0, 1)) (d1 : decode cc 1 = .ok (.invokespecial ix, 3)) (d4 : decode cc 4 = .ok (.aload_n 0, 1)) (d5 : decode cc 5 = .ok (.iload_n 1, 1)) (d6 : decode cc 6 = .ok (.putfield ip, 3)) (d9 : decode cc 9 = .ok (.return_, 1))
    (hws : ∀ w ∈ supA obj ix obj "java/lang/RuntimeException" ["java/lang/Exception"], wOK w) (hin : ∀ w ∈ u_ws obj T 1, w ∈ lw_all) (hT : T 0 = (obj, fn, "I", true)) (hlk : Cond.fieldLink obj ip obj fn "I" ∈ lw_all) :
    BKM l obj T ⟨obj, "<init>", "(I)V"⟩ cc := by
  intro G s args0 H locs b v cX kX iS hts0 hK hS hbA hkX hcell hKn
  refine vx_ofW (cc := cc) (maxL := 2) (ret := none) hy rfl ?_
  intro p e s' m args below meth c s₁ B hml ht hP
  obtain ⟨rfl, hH, hW⟩ := hP
  have hts : ∀ w ∈ ws_ ⟨obj, "<init>", "(I)V"⟩ cc 2 none, w.before #[.ref b, .int v] s' = true := atoms_spec (ws := ws_ ⟨obj, "<init>", "(I)V"⟩ cc 2 none) B.pre
  have hts : ∀ w ∈ lw_all, w.before #[.ref b, .int v] s' = true := fun w h => hts w (List.mem_cons_of_mem _ h)
  have hown : s'.vm.findClass obj = some m.cls := findClass_of_methodNamed B.named
  have hK' := hK.move hW hS
  rw [← hH] at hK' hcell
  obtain ⟨kX', hkX', heX⟩ := hW.alike.2.2 _ _ hkX
  have hcell' : s'.heap[b]? = some (freshCell cX kX') := by
    rw [hcell, heX]
    rfl
  have hKn' : u_Kn s' obj T 1 cX iS := u_Kn_moved hW.alike hKn
  have hslot : iS 0 < (freshCell cX kX').slots.size := by
    obtain ⟨cell, q1, -, -, q4⟩ := u_born (fun _ => .int) hts hin hKn' hkX' (H := s'.heap) (o := b) hcell' (fun k hk => by
      have : k = 0 := by omega
      subst this
      rw [hT]; exact pfd_I)
    rw [hcell'] at q1
    cases q1
    exact (Array.getElem?_eq_some_iff.mp (q4 0 (by decide))).1
  rw [lg_entry_eq]
  have hl := lv_entry [.ref b, .int v] (n := 2) (show 2 ≤ 2 from Nat.le_refl 2)
  generalize ((lg_sl [Value.ref b, Value.int v] ++ List.replicate (2 - (lg_sl [Value.ref b, Value.int v]).length) Slot.unset).toArray) = la at hl
  refine lv_aload_n B.exec B.bytes d0 rfl (lv_at hl 0 rfl) ?_
  refine vx_super0 B.exec B.bytes hl0 hown (by decide +kernel) (by decide +kernel) (supA_all hts hK'.2.1 hws hK'.2.2.2.2.1 hK'.2.2.2.2.2.1) hKn'.2.1 hkX' hcell' (hl.1.trans hml.symm) d1 (show 1 + 3 < 9 by decide) (show 0 + (13 * (1 + 1) + 41) ≤ 150 by decide) ?_
  intro H' ce L e1 e2 e3 e4 e5 e6 e7
  refine lv_aload_n B.exec B.bytes d4 rfl (lv_at hl 0 rfl) ?_
  refine lv_iload_n B.exec B.bytes d5 rfl (lv_at hl 1 rfl) ?_
  have hKK : va_K ((fun _ => cX, fun _ => iS) : va_G) [(obj, T, 1)] [] s' := ⟨fun k q hq => (by
    cases k with
    | zero => cases hq; exact hKn'
    | succ k => cases hq), fun k q hq => (by cases hq)⟩
  have hPP : va_P ((fun _ => cX, fun _ => iS) : va_G) [(obj, T, 1)] [(b, .inr (0, [ce.slots.getD (iS 0) .null]))] H' := by
    intro k q hq
    cases k with
    | zero =>
      cases hq
      refine ⟨_, rfl, ce, e1, e2, e3, fun k hk => ?_⟩
      have : k = 0 := by have : k < 1 := hk; omega
      subst this
      have hlt : iS 0 < ce.slots.size := by rw [e4]; exact hslot
      show ce.slots[iS 0]? = some (ce.slots.getD (iS 0) .null)
      rw [Array.getElem?_eq_getElem hlt, Array.getD_eq_getD_getElem?, Array.getElem?_eq_getElem hlt]
      rfl
    | succ k => cases hq
  have hDD : va_D (fun q => q = b) [(b, (.inr (0, [ce.slots.getD (iS 0) .null]) : va_E))] := ⟨fun i j x y hi hj _ => (by
    cases i with
    | zero =>
      cases j with
      | zero => rfl
      | succ j => cases hj
    | succ i => cases hi), fun k q hq => (by
    cases k with
    | zero => cases hq; rfl
    | succ k => cases hq)⟩
  have hSS : va_S (fun q => q = b) s'.heap H' L := ⟨by rw [e5]; exact Nat.le_refl _, fun q _ h2 => e6 q h2, fun y hy => e7 y hy⟩
  refine va_putF (own := obj) (ref := obj) (ty := .int) (v := .int v) (k := 0) B.exec B.bytes hts hin (fun _ => .int) (fun k hk => by
      have : k = 0 := by omega
      subst this
      rw [hT]; exact pfd_I) (fun a ha b hb hne => by omega) hown hKK hPP hDD hSS 0 rfl rfl (by decide) (by rw [hT]; exact hts _ hlk) (by rw [hT]; exact fun _ z => z) (by rw [hT]) (by have := (name_of_methodNamed B.named B.method).1; exact this) (by rw [hT]) (by rw [hT]; exact pfd_I) rfl rfl (show 0 < 1 by decide) d6 ?_
  intro H1 locs1 hP1 hD1 hS1
  refine vx_ret (W.vret B.exec B.bytes B.returns (fun t ht _ => ⟨rfl, ?_, by rw [ht, ← hH]; exact hS1.1, fun q h1 h2 => ?_⟩) hS1.2.2 d9)
  · obtain ⟨kq, hkq, cell, q1, q2, q3, q4⟩ := hP1 0 _ rfl
    cases hkq
    exact ⟨cell, by rw [ht]; exact q1, q2, q3, q4 0 (show 0 < 1 by decide)⟩
  · rw [ht, ← hH]
    rw [← hH] at h1
    exact hS1.2.1 q h1 h2
end
theorem fI_other {h : HP} {f a b : Nat} {v : Int32} (e : b ≠ a) (g : Nat) : fI (pI h f a v) g b = fI h g b := by
  show up2 (fI h) f a v g b = _
  unfold up2 up1
  by_cases q : g = f
  · subst q; simp [e]
  · simp [q]
theorem fI_self {h : HP} {f a : Nat} {v : Int32} : fI (pI h f a v) f a = v := by
  show up2 (fI h) f a v f a = _
  unfold up2 up1
  simp
theorem EE_newB {G : GX} {loc loc' : Nat → Nat} {h : HP} {c n k f b : Nat} {v : Int32} (hc : HC h) (hl : ∀ a, a < hsz h → loc' a = loc a) (hb : b < hsz h) : EE G loc' (pI (hnew h c n k) f (hsz h) v) b = EE G loc h b := by
  rw [← EE_new (c := c) (n := n) (k := k) hc hl hb]
  have e7 : fv G loc' (pI (hnew h c n k) f (hsz h) v) b = fv G loc' (hnew h c n k) b := by
    funext q
    unfold fv
    rw [fI_other (Nat.ne_of_lt hb)]
    rfl
  unfold EE
  rw [e7]
  rfl
/-- a cell more, its number set -/
theorem HR.newB {G : GX} {loc : Nat → Nat} {h : HP} {H H1 : Heap} {c f q : Nat} {v : Int32} (hr : HR G loc h H) (hc : 7 < c) (hbA : ¬ gA G (gb G)) (hgb : gb G < H.size) (hq : H.size ≤ q) (hqA : gA G q) (ho : ∀ x, x < H.size → H1[x]? = H[x]?)
    (hnw : va_at (gD G) clT (q, EE G (up1 loc (hsz h) q) (pI (hnew h c 0 7) f (hsz h) v) (hsz h)) H1) : HR G (up1 loc (hsz h) q) (pI (hnew h c 0 7) f (hsz h) v) H1 := by
  have hl : ∀ a, a < hsz h → up1 loc (hsz h) q a = loc a := fun a ha => up1_ne (Nat.ne_of_lt ha)
  have hold : ∀ b, 0 < b → b < hsz h → loc b < H.size := by
    intro b b0 b1
    by_cases b7 : hcls h b = 7
    · rw [(hr.2.2.2 b b0 b1 b7).1]; exact hgb
    · exact (hr.2.1 b b0 b1 b7).1.lt
  have hc1 : HC (pI (hnew h c 0 7) f (hsz h) v) := hr.1.new (c := c) (n := 0) (k := 7)
  refine ⟨hc1, fun b b0 b1 b7 => ?_, fun b c' b0 b1 c0 c1 e => ?_, fun b b0 b1 b7 => ?_⟩
  · have b1 : b < hsz h + 1 := b1
    by_cases e : b = hsz h
    · subst e
      rw [up1_eq]
      exact ⟨hnw, hqA⟩
    · have b1 : b < hsz h := by omega
      have b7 : hcls h b ≠ 7 := by rw [show hcls (pI (hnew h c 0 7) f (hsz h) v) b = hcls h b from up1_ne e] at b7; exact b7
      obtain ⟨q1, q2⟩ := hr.2.1 b b0 b1 b7
      rw [EE_newB hr.1 hl b1, up1_ne e]
      refine ⟨(va_one q1).kept (fun i x hx => ?_) 0 _ rfl, q2⟩
      cases i with
      | zero => cases hx; exact ho _ q1.lt
      | succ i => cases hx
  · have b1 : b < hsz h + 1 := b1
    have c1 : c' < hsz h + 1 := c1
    by_cases e1 : b = hsz h
    · by_cases e2 : c' = hsz h
      · omega
      · rw [e1, up1_eq, up1_ne e2] at e
        have := hold c' c0 (by omega)
        omega
    · by_cases e2 : c' = hsz h
      · rw [e2, up1_eq, up1_ne e1] at e
        have := hold b b0 (by omega)
        omega
      · rw [up1_ne e1, up1_ne e2] at e
        exact hr.2.2.1 b c' b0 (by omega) c0 (by omega) e
  · have b1 : b < hsz h + 1 := b1
    by_cases e : b = hsz h
    · rw [e, show hcls (pI (hnew h c 0 7) f (hsz h) v) (hsz h) = c from up1_eq] at b7
      omega
    · rw [show hcls (pI (hnew h c 0 7) f (hsz h) v) b = hcls h b from up1_ne e] at b7
      obtain ⟨q1, q2, q3⟩ := hr.2.2.2 b b0 (by omega) b7
      rw [up1_ne e, show hlen (pI (hnew h c 0 7) f (hsz h) v) b = hlen h b from up1_ne e, show aI (pI (hnew h c 0 7) f (hsz h) v) b = aI h b from up1_ne e]
      exact ⟨q1, q2, q3⟩
/-- the class obj (tag c, its number the field f), made by own's constants ik and ic -/
def BKF (own obj host : String) (T : u_T) (cB : ByteArray) (c f ik ic : Nat) : Prop := 7 < c ∧ clT[clI c]? = some (obj, T, 1) ∧ flT c = [(0, f)] ∧ Cond.classLink own ik obj ∈ lw_all ∧ Cond.instantiable obj 7 ∈ lw_all ∧ Cond.initialized obj ∈ lw_all ∧
  Cond.instanceMethod ⟨obj, "<init>", "(I)V"⟩ ∈ lw_all ∧ Cond.code ⟨obj, "<init>", "(I)V"⟩ cB 2 none ∈ lw_all ∧ (Cond.methodLink own ic ⟨obj, "<init>", "(I)V"⟩ ∈ lw_all ∨ Cond.methodLinkNest own ic ⟨obj, "<init>", "(I)V"⟩ host ∈ nwT) ∧
  obj ≠ "java/lang/invoke/MethodHandle" ∧ obj ≠ "java/lang/invoke/VarHandle"
section
variable {l : Launch} {m pc : Nat} {cc : ByteArray}
theorem ss_bk0 {g : SF} {pi ik ic c f : Nat} {own obj host : String} {T : u_T} {cB : ByteArray} (eb : (miT m).2.1 = cc) (eo : (miT m).1.cls = own) (d0 : decode cc pc = .ok (.new ik, 3)) (d3 : decode cc (pc + 3) = .ok (.dup, 1)) (di : decode cc pi = .ok (.invokespecial ic, 3)) (hB : BKF own obj host T cB c f ik ic) (hM : BKM l obj T ⟨obj, "<init>", "(I)V"⟩ cB)
    (hg : ∀ C' K' T' ls st h, g C' K' T' ls st h → ∃ v : Int32, bkS c f v (pi + 3) K' ls st h ∧ ∀ (p : Program) (e : Env) (s : State) (mm : MethodId) (args : Array Value) (below : List Frame) (meth : Method) (c0 : Code) (G : GX), FX (miT m) p s mm args meth c0 G → ∀ (R : Room) (Q : State → Prop) (loc : Nat → Nat) (H H1 : Heap) (locs : List Loc) (cells slots : Nat) (la : Array Slot) (rr : List Value), HR G loc h H → hsz h ≤ strB → (∀ q, q < H.size → H1[q]? = H[q]?) → lv_has la (miT m).2.2.1 (prs G loc 0 ls) →
      W p l e R s mm args below meth c0 H1 locs cells slots Q (F0 mm pi la (.int v :: rr)) → W p l e R s mm args below meth c0 H1 locs cells slots Q (F0 mm (pc + 4) la rr)) : SS l m pc g := by
  intro d ls st h Q C' K' T' hC hK hT H
  obtain ⟨v, hb, harg⟩ := hg _ _ _ _ _ _ H
  unfold bkS at hb
  cases hk8 : stk 7 st with
  | false => rw [hk8] at hb; exact hb.elim
  | true =>
  rw [hk8] at hb
  simp only [cond_true] at hb
  obtain ⟨o, h', hs, hq⟩ := hK _ _ _ _ (hb _ _ rfl rfl)
  refine ⟨o, h', ?_, hq⟩
  obtain ⟨hc, hcl, hfl, w1, w2, w3, w4, w5, w6, n1, n2⟩ := hB
  obtain ⟨⟨m1, m2, m3⟩, hw⟩ := hs
  have m1 : hnc h + 1 ≤ hnc h' := m1
  have m2 : hns h + 7 ≤ hns h' := m2
  have m3 : hsz h + 1 ≤ hsz h' := m3
  have hle : hsz h ≤ hsz (pI (hnew h c 0 7) f (hsz h) v) := Nat.le_succ _
  have hv1 : vok (pI (hnew h c 0 7) f (hsz h) v) (.ref (hsz h)) := Or.inr (Or.inl (Nat.lt_succ_self _))
  refine ⟨⟨by omega, by omega, by omega⟩, fun hz => ?_⟩
  obtain ⟨hvo, hw⟩ := hw hz
  refine ⟨fun z a b => hvo (z.new (c := c) (n := 0) (k := 7)) (vokL_up hle a) (vokL_c hv1 (vokL_up hle b)), ?_⟩
  intro p e s mm args below meth c0 G F loc HH locs cells slots la hr hS hl v1 v2 hla
  have hown : s.vm.findClass own = some mm.cls := by rw [← eo]; exact F.2.2.2.1
  have hKn := F.kf.1.1 _ _ hcl
  have hcat := stk_cat (G := G) (loc := loc) st 7 hk8
  refine W.newcK F.1 (F.2.1.trans eb) hown (F.hts _ w1) (F.hts _ w2) (F.hts _ w3) (g := F0 mm pc la (st.map (cv G loc))) rfl d0 (by show cells + 1 ≤ cells + (hnc h' - hnc h); omega) (by show slots + 7 ≤ slots + (hns h' - hns h); omega) hKn.2.1 rfl fun H1 kC hkC e1 z1 o1 => ?_
  show W p l e _ s mm args below meth c0 H1 locs (cells + 1) (slots + 7) _ (F0 mm (pc + 3) la (.ref HH.size :: st.map (cv G loc)))
  refine lv_dup F.1 (F.2.1.trans eb) d3 rfl ?_
  refine harg p e s mm args below meth c0 G F _ _ loc HH H1 locs _ _ la _ hr (by omega) o1 hla ?_
  have hS1 : va_S (gA G) s.heap H1 locs := ⟨Nat.le_trans hS.1 (by omega), fun x h1 h2 => (o1 x (Nat.lt_of_lt_of_le h1 hS.1)).trans (hS.2.1 x h1 h2), hS.2.2⟩
  have hMet := hM G s args H1 locs HH.size v _ kC _ F.hts F.kf hS1 (F.hA _ hS.1) hkC e1 hKn
  have hdd : ({ cls := obj, name := "<init>", desc := "(I)V" } : MethodName).cls ≠ "java/lang/invoke/MethodHandle" ∧ ({ cls := obj, name := "<init>", desc := "(I)V" } : MethodName).cls ≠ "java/lang/invoke/VarHandle" ∧ (parseMethodDescriptor ({ cls := obj, name := "<init>", desc := "(I)V" } : MethodName).desc).map (fun d => d.parameters.length) = some 1 := ⟨n1, n2, pmd_IV⟩
  have hrun : vx_Run p l e (RM d (cells + (hnc h' - hnc h)) (slots + (hns h' - hns h))) s mm args below meth c0 H1 locs (cells + 1) (slots + 7) 0 0 (F0 mm pi la (.int v :: .ref HH.size :: .ref HH.size :: st.map (cv G loc))) (.ref HH.size :: st.map (cv G loc)) (QB H1 HH.size ((gD G).1 (clI c)) ((gD G).2 (clI c) 0) v (Value.ref HH.size :: [.int v]).toArray) (fun _ _ _ _ => False) (fun q => q = HH.size) := by
    have hroom : rmB.frames + 1 ≤ (RM d (cells + (hnc h' - hnc h)) (slots + (hns h' - hns h))).frames ∧ 8 + (2 + 11) + rmB.locals ≤ (RM d (cells + (hnc h' - hnc h)) (slots + (hns h' - hns h))).locals := ⟨by show 9 + 1 ≤ d + 10; omega, by show 8 + (2 + 11) + 150 ≤ 64 * d + 200; omega⟩
    have hcats : 2 * (F0 mm pi la (.int v :: .ref HH.size :: .ref HH.size :: st.map (cv G loc))).monitorRoom + ((Value.ref HH.size :: st.map (cv G loc)).map fun v => v.category).sum ≤ 8 := by
      show 2 * 0 + (1 + ((st.map (cv G loc)).map fun v => v.category).sum) ≤ 8
      omega
    have hfit : cells + 1 + 0 ≤ (RM d (cells + (hnc h' - hnc h)) (slots + (hns h' - hns h))).cells ∧ slots + 7 + 0 ≤ (RM d (cells + (hnc h' - hnc h)) (slots + (hns h' - hns h))).slots := ⟨by show cells + 1 + 0 ≤ cells + (hnc h' - hnc h); omega, by show slots + 7 + 0 ≤ slots + (hns h' - hns h); omega⟩
    rcases w6 with w6 | w6
    · exact vx_runI (b := HH.size) (As := [.int v]) ⟨F.1, F.2.1.trans eb, F.2.2.1, hown, F.hts⟩ hMet (cwI 1 F.hts (lw_meth w5) rfl rfl rfl (F.hts _ w3) (F.hts _ w6) (F.hts _ w4) rfl hdd hroom) ⟨PcC_blind _ _ _, fun U hU hW => ⟨rfl, hU, hW⟩⟩ rfl rfl hla.1 rfl hcats di hfit
    · exact vx_runIN (b := HH.size) (As := [.int v]) ⟨F.1, F.2.1.trans eb, F.2.2.1, hown, F.hts⟩ hMet ⟨va_cnB 1 F.hts (lw_meth w5) rfl rfl rfl (F.kf.2.1 _ w6) (F.hts _ w3) hdd hroom, rfl, F.hts _ w4⟩ ⟨PcC_blind _ _ _, fun U hU hW => ⟨rfl, hU, hW⟩⟩ rfl rfl hla.1 rfl hcats di hfit
  intro T hT X
  rcases hrun T hT X with ⟨v', st₀, t, T', L, h0, X', hL, q1, q2, ⟨ho, ⟨ce, c1, c2, c3, c4⟩, hz1, hk1⟩, stp⟩ | ⟨_, _, _, _, _, _, _, _, _, _, _, _, hF, _⟩
  · have ho : v' = none := by injection ho
    subst ho
    have X2 := Stand.forget X' (fun y hy => by rw [hL y hy]; exact hS.1)
    have ho2 : ∀ x, x < HH.size → T'.heap[x]? = HH[x]? := fun x hx => by rw [q1, hk1 x (by omega) (by omega)]; exact o1 x hx
    have hlq : ∀ a, a < hsz h → up1 loc (hsz h) HH.size a = loc a := fun a ha => up1_ne (Nat.ne_of_lt ha)
    have hr1 : HR G (up1 loc (hsz h) HH.size) (pI (hnew h c 0 7) f (hsz h) v) T'.heap := by
      refine hr.newB hc F.kf.2.2.2.2.2.2.2.2.1 (Nat.lt_of_lt_of_le F.kf.2.2.2.2.2.2.2.1 hS.1) (Nat.le_refl _) (F.hA _ hS.1) ho2 ?_
      rw [EE_obj (show hcls (pI (hnew h c 0 7) f (hsz h) v) (hsz h) = c from up1_eq) hc, hfl]
      refine ⟨_, hcl, ce, by rw [q1]; exact c1, c2, c3, fun k hk => ?_⟩
      have : k = 0 := by have : k < 1 := hk; omega
      subst this
      rw [c4]
      show some (Value.int v) = some (.int (fI (pI (hnew h c 0 7) f (hsz h) v) f (hsz h)))
      rw [fI_self]
    have hS2 : va_S (gA G) s.heap T'.heap locs := ⟨Nat.le_trans hS.1 (by rw [q1]; omega), fun x h1 h2 => (ho2 x (Nat.lt_of_lt_of_le h1 hS.1)).trans (hS.2.1 x h1 h2), hS.2.2⟩
    have := hw p e s mm args below meth c0 G F _ T'.heap locs (cells + 1) (slots + 7) la hr1 hS2 hl (vokL_up hle v1) (vokL_c hv1 (vokL_up hle v2)) (by rw [prs_eq hlq 0 ls v1]; exact hla)
    rw [show hnc (pI (hnew h c 0 7) f (hsz h) v) = hnc h + 1 from rfl, show hns (pI (hnew h c 0 7) f (hsz h) v) = hns h + 7 from rfl, show hsz (pI (hnew h c 0 7) f (hsz h) v) = hsz h + 1 from rfl, show cells + 1 + (hnc h' - (hnc h + 1)) = cells + (hnc h' - hnc h) by omega, show slots + 7 + (hns h' - (hns h + 7)) = slots + (hns h' - hns h) by omega] at this
    rw [List.map_cons, map_cv_eq hlq v2, show cv G (up1 loc (hsz h) HH.size) (.ref (hsz h)) = .ref HH.size by
      show cr G _ _ = _
      rw [cr_loc hr.1.2.2.2 (Nat.lt_succ_self _) (Nat.le_trans m3 hz), up1_eq]] at this
    have hfin := W.imp (vx_MQ.imp (Qc' := QC G loc (hsz h) o h') (X' := XC G loc (hsz h) o h') ?_ ?_) this
    · obtain ⟨t2, a1, b1⟩ := hfin T' rfl X2
      exact ⟨t2, stp t2 a1, b1⟩
    · rintro oc t ⟨⟨v, loc2, a1, a2, a3⟩, a4⟩
      exact ⟨⟨v, loc2, a1, fun a ha => (a2 a (Nat.lt_succ_of_lt ha)).trans (hlq a ha), a3⟩, a4⟩
    · rintro EN qa t ⟨⟨r, loc2, a1, a2, a3⟩, a4⟩
      exact ⟨⟨r, loc2, a1, fun a ha => (a2 a (Nat.lt_succ_of_lt ha)).trans (hlq a ha), a3⟩, a4⟩
  · exact hF.elim
end
