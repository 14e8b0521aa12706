/-! THE CLAIM out of the law's run over abstract heaps: the head and the end began as kit/laws/SKELETON.whole -/
set_option maxRecDepth 100000
def R_law : String := "LibraryDeskLaw"
def lw_P (b : Addr) (xs : List Int32) (args : Array Value) (s : State) : Prop := args = #[.ref b] ∧ s.IntsAt b xs ∧ xs.length ≤ 384 ∧ (Jvm.Cond.and given_1 narrow_1).before args s = true
def lw_Q (_ : Array Value) (s : State) (o : Outcome) (t : State) : Prop := o = .returned (some (.int 1)) ∧ Framed s o t [] 239392 8353354
def lw_Z (below : List Frame) (a : Array Value) (s : State) : State → Prop := fun t => ∃ o, t.status = .running ∧ Ended t below o ∧ lw_Q a s o t
/-- the heap at the start: the script, cell 1 -/
def h0 (L : Nat) (xs : Nat → Int32) : HP := (up1 (fun _ => 0) 1 7, up1 (fun _ => 0) 1 L, fun _ _ => 0, fun _ _ => 0, fun _ _ => 0, up1 (fun _ _ => 0) 1 xs, fun _ _ => 0, fun _ _ => 0, 2, 0, 0)
/-- WHAT IS OWED, over abstract heaps: the law returns, answers 1, and keeps to its room -/
def PureLaw : Prop := ∀ (L : Nat) (xs : Nat → Int32), L ≤ 384 → ∃ d, d ≤ 1600 ∧ wp pg d m_Law_law 0 (lpad 8 (lspr [.ref 1])) [] (h0 L xs) (fun o h' => o = .inl (some (.int 1)) ∧ hnc h' ≤ 239392 ∧ hns h' ≤ 8353354 ∧ hsz h' ≤ strB)
theorem h0_HC {L : Nat} {xs : Nat → Int32} : HC (h0 L xs) := by
  refine ⟨fun _ _ => Or.inl rfl, fun _ _ => Or.inl rfl, fun a ha => ?_, by show 0 < 2; decide⟩
  have : a = 1 := by
    by_cases e : a = 1
    · exact e
    · refine absurd ?_ ha
      show up1 (fun _ => 0) 1 7 a = 0
      rw [up1_ne e]
  subst this
  exact ⟨by decide, by show 1 < 2; decide⟩
theorem h0_HR {G : GX} {H : Heap} : HR G (fun _ => gb G) (h0 (gL G) (gx G)) H := by
  have one : ∀ a, 0 < a → a < hsz (h0 (gL G) (gx G)) → a = 1 := fun a a0 a1 => by
    have a1 : a < 2 := a1
    omega
  refine ⟨h0_HC, fun a a0 a1 a7 => ?_, fun a b a0 a1 b0 b1 _ => ?_, fun a a0 a1 _ => ?_⟩
  · rw [one a a0 a1] at a7
    exact absurd rfl a7
  · rw [one a a0 a1, one b b0 b1]
  · rw [one a a0 a1]
    exact ⟨rfl, rfl, rfl⟩
theorem W.room {p : Program} {l : Launch} {e : Env} {R R' : Room} {s : State} {m : MethodId} {args : Array Value} {below : List Frame} {meth : Method} {c : Code} {H : Heap} {locs : List Loc} {cells slots : Nat} {Q : State → Prop} {g : JFrame}
    (h1 : R.frames ≤ R'.frames) (h2 : R.locals ≤ R'.locals) (h3 : R.cells ≤ R'.cells) (h4 : R.slots ≤ R'.slots) (k : W p l e R s m args below meth c H locs cells slots Q g) : W p l e R' s m args below meth c H locs cells slots Q g := by
  intro T hT X
  refine k T hT { X with room := ?_ }
  have h := X.room
  simp only [State.hasRoom, Bool.and_eq_true, decide_eq_true_eq] at h ⊢
  obtain ⟨⟨⟨⟨y, a, b, c, d, e⟩, f⟩, g⟩, i⟩ := h
  exact ⟨⟨⟨⟨by omega, by omega, by omega, by omega, by omega, e⟩, by omega⟩, by omega⟩, i⟩
theorem whole_start (hp : PureLaw) {p : Program} {e : Env} {s : State} {m : MethodId} {below : List Frame} {meth : Method} {c : Code} (l : Launch) (hl : l.stackTraces = false) {b L : Nat} {xs : Nat → Int32} (hL : L ≤ 384)
    (hx : p.tables.exec = Jvm.exec) (hc : c.code = code) (hml : c.maxLocals = 8) (hown : s.vm.findClass R_law = some m.cls) (hts : ∀ w ∈ lw_tbl, w.before #[Value.ref b] s = true) (hr : meth.sig.returnType = ret) (hlocks : meth.locks = false) (hnm : meth.name = x.name) (htab : c.exceptionTable.toList = [])
    (hX : va_X b L xs s s.heap) (hb : b < s.heap.size) (hg : (Jvm.Cond.and given_1 narrow_1).before #[Value.ref b] s = true) :
    W p l e room_1 s m #[Value.ref b] below meth c s.heap [] 0 0 (lw_Z below #[Value.ref b] s) (entryFrame m ([Value.ref b] : List Value).toArray 8) := by
  obtain ⟨G, gA0, gb0, gL0, gx0, hk⟩ := kf0 hts hX hb hg
  obtain ⟨d, hd, hw⟩ := hp L xs hL
  obtain ⟨o, h', hm, rfl, qn, qs, hsz'⟩ := hw (X0 l) (clo_pg hl)
  have hF : FX (miT m_Law_law) p s m #[Value.ref b] meth c G := by
    rw [mi_Law_law]
    exact ⟨hx, hc, hml, hown, fun w h => hts w (lw_all_tbl h), hr, hlocks, hnm, htab, hk, fun q hq => by rw [gA0]; exact hq⟩
  rw [← gL0, ← gx0] at hm
  have hcv : cv G (fun _ => gb G) (.ref 1) = .ref b := by
    rw [show cv G (fun _ => gb G) (.ref 1) = cr G (fun _ => gb G) 1 from rfl, cr_loc (sz := 2) (by decide) (by decide) (by decide), gb0]
  have hW := SM.body (p := p) (e := e) (below := below) hm hsz' (by rw [mi_Law_law]; exact (by decide : 1 ≤ 8)) (as := [.ref 1]) (fun v hv => by rw [List.mem_singleton.mp hv]; exact Or.inr (Or.inl (show 1 < 2 by decide))) (h0_HR (H := s.heap)) (s := s) (H := s.heap) hF ⟨by rw [List.map_cons, hcv]; rfl, rfl, State.WarmedH.refl s⟩
  rw [mi_Law_law] at hW
  refine W.imp ?_ (W.room (R' := room_1) (by show d + 10 ≤ 8192; omega) (by show 64 * d + 200 ≤ 104096; omega) (by show hnc h' - 0 ≤ 239392; omega) (by show hns h' - 0 ≤ 8353354; omega) hW)
  rintro t ⟨oc, b1, b2, (⟨⟨⟨v, loc', a1, a2, a3, a4⟩, -⟩, Lc, ⟨f1, f2, f3⟩, hfree⟩ | ⟨q, -, E, ce, Lc, ⟨⟨r, loc', a1, -⟩, -⟩, -⟩)⟩
  · cases a1
    refine ⟨oc, b1, b2, a3, f1, f2, f3.weaken (fun y hy hlt => ?_) ?_ ?_⟩
    · have := hfree y hy
      rw [gA0] at this
      exact absurd hlt (Nat.not_lt.mpr this)
    · show hnc h' - 0 ≤ 239392
      omega
    · show hns h' - 0 ≤ 8353354
      omega
  · cases a1
set_option maxHeartbeats 4000000 in
theorem lw_walk (hp : PureLaw) (l : Launch) (hflags : l.flags = flags0) (b : Addr) (xs : List Int32) : MetFree l x (headSpec (Jvm.Cond.code x code maxLocals ret :: tables_1) room_1) (lw_P b xs) (fun _ _ _ _ _ => True) lw_Q := by
  refine MetFree.of_bodyS (code := code) (maxLocals := maxLocals) (ret := ret) (by decide) ?_ ?_
  · intro args s m h hn
    obtain ⟨meth, c, h1, h2, h3, h4, h5, h6, -, -⟩ := Cond.code_spec hn (atoms_spec (ws := Jvm.Cond.code x code maxLocals ret :: tables_1) h _ List.mem_cons_self)
    exact ⟨meth, c, h1, h2, h3, h4, h5, h6⟩
  · intro p e s m args below meth c s₁ B hml0 hP _
    obtain ⟨rfl, hx, hbd, hgv⟩ := hP
    obtain ⟨scr, harrAt, hlist, hof, hsmall⟩ := hx
    obtain ⟨hcb, hkn, -, -⟩ := State.arrayAt?_spec harrAt
    have hown : s.vm.findClass R_law = some m.cls := findClass_of_methodNamed B.named
    have hts0 : ∀ c ∈ (Jvm.Cond.code x code maxLocals ret :: tables_1), c.before #[Value.ref b] s = true := atoms_spec (ws := Jvm.Cond.code x code maxLocals ret :: tables_1) B.pre
    have hts : ∀ w ∈ lw_tbl, w.before #[Value.ref b] s = true := k2_hts_sels lw_privs (fun w hw => hts0 w (List.mem_cons_of_mem _ hw)) lw_privs_ok
    have hml : c.maxLocals = 8 := B.maxLocals_eq (hts0 _ List.mem_cons_self)
    have X₀ : Stand p l e room_1 s m #[Value.ref b] below meth c s₁ [] 0 0 := Stand.of_body B
    have htab : c.exceptionTable.toList = [] := by
      obtain ⟨meth9, c9, h1, h2, -, -, -, -, h7, -⟩ := Cond.code_spec B.named (hts0 _ List.mem_cons_self)
      cases Option.some.inj (h1.symm.trans B.method)
      cases Option.some.inj (h2.symm.trans X₀.code)
      rw [Array.isEmpty_iff.mp h7]
    have hh0 : s₁.heap = s.heap := by rw [B.state]; rfl
    have hsz : scr.slots.size = xs.length := by rw [← Array.length_toList, hlist, List.length_map]
    have hval : ∀ j : Nat, j < xs.length → scr.slots[j]? = some (.int (xs.getD j 0)) := fun j hj => by
      rw [← Array.getElem?_toList, hlist]
      simp [hj]
    have hbl : b < s.heap.size := (Array.getElem?_eq_some_iff.mp hcb).1
    have hX : va_X b xs.length (fun j => xs.getD j 0) s s.heap := ⟨scr, hcb, hof, hkn, hsz, hval⟩
    have hl : l.stackTraces = false := by
      unfold Launch.stackTraces
      rw [hflags]
      decide
    have K : W p l e room_1 s m #[Value.ref b] below meth c s₁.heap [] 0 0 (lw_Z below #[Value.ref b] s) (entryFrame m ([Value.ref b] : List Value).toArray 8) := by
      rw [hh0]
      exact whole_start hp l hl hbd B.exec B.bytes hml hown hts B.returns B.notSynchronized (name_of_methodNamed B.named B.method).1 htab hX hbl hgv
    obtain ⟨t, a1, o, b1, b2, b3⟩ := K s₁ rfl X₀
    exact ⟨t, o, a1, b1, b2, b3⟩
theorem lw_pre_spec {args : Array Value} {s : State} (h : (Jvm.Cond.and given_1 narrow_1).before args s = true) (hr : rest_1_c.before args s = true) : ∃ (b : Addr) (xs : List Int32), lw_P b xs args s := by
  have hs := flat_of_before _ h
  have hq := flat_of_before _ hr
  have hc : (Cond.count 1).before args s = true := hs _ (by decide +kernel)
  have harr : (Cond.arrayOf (.arg 0) .int).before args s = true := hs _ (by decide +kernel)
  have hle : (Cond.le (.length (.arg 0)) (.int 384)).before args s = true := hs _ (by decide +kernel)
  have hlen : (Cond.isInt (.length (.arg 0))).before args s = true := hq _ (by decide +kernel)
  have hall : (Cond.all (.arg 0) (.isInt (.elem (.arg 0) (.index 0)))).before args s = true := hq _ (by decide +kernel)
  obtain ⟨b, xs, hb, hx⟩ := State.ints_of_pre rfl harr hlen hall
  have hsm : xs.length < 2 ^ 31 := hx.choose_spec.2.2.2
  have hev : (Term.length (.arg 0)).eval args s none [] s = some (.int xs.length.toInt32) := hx.length_eval hb
  have hv := Cond.le_ints hev (show (Term.int 384).eval args s none [] s = some (.int 384) from rfl)
  have hd : xs.length.toInt32 ≤ 384 := by
    simpa [Cond.before, Cond.holds, hv] using hle
  have hN : xs.length ≤ 384 := (Int32.ofNat_le_ofNat hsm (by decide)).mp (show Int32.ofNat xs.length ≤ Int32.ofNat 384 from hd)
  exact ⟨b, xs, Cond.one_arg hc (show args[0]? = some (.ref b) from hb), hx, hN, h⟩
theorem lw_comes (hp : PureLaw) (l : Launch) (hflags : l.flags = flags0) : Comes l x (Jvm.Cond.code x code maxLocals ret :: tables_1) room_1 (fun tb e args s => Calls_1 tb e args s ∧ rest_1 tb e args s ∧ Pre_1 tb e args s)
    (fun _ _ args s o t => lw_Q args s o t) := by
  intro p e ha hc hk s m args below hf hfit hheap happ hpre
  obtain ⟨b, xs, hP⟩ := lw_pre_spec hpre.2.2 hpre.2.1.1
  obtain ⟨k, o, h1, h2, h3, hQ⟩ := lw_walk hp l hflags b xs p e ha hc hk s m args below hf ((Spec.applies_iff_loose hf).mp happ).1 hP trivial
  exact ⟨k, o, h1, h2, h3, hQ⟩
theorem lw_frame {s t : State} {o : Outcome} {args : Array Value} (h : Framed s o t [] 239392 8353354) :
    Framed s o t (fieldLocs frame_1_writes args s ++ arrayLocs frame_1_arrays args s ++ staticLocs frame_1_statics s) 239392 8353354 := h
theorem lw_limb (hp : PureLaw) (L : Cond) (hL : ∀ (args : Array Value) (s t : State), L.after args s (.returned (some (.int 1))) t = true) :
    ArmFor flags0 classFile x code maxLocals ret World_1 tables_1 room_1 Calls_1 rest_1 Pre_1
      (fun tb e a s o t => postC L tb e a s o t ∧ Framed s o t (fieldLocs frame_1_writes a s ++ arrayLocs frame_1_arrays a s ++ staticLocs frame_1_statics s) 239392 8353354) := by
  intro l hflags _ _ p e ha hc hk s m args below hf hfit hheap happ hpre
  obtain ⟨k, o, h1, h2, h3, rfl, hF⟩ := lw_comes hp l hflags p e ha hc hk s m args below hf hfit hheap happ hpre
  exact ⟨k, _, h1, h2, h3, hL args s _, lw_frame hF⟩
theorem i_vc_of (hp : PureLaw) : Claimed_1_1 ∧ Claimed_1_2 := ⟨lw_limb hp limb_1_1 (fun args s t => by simp [limb_1_1, Cond.after, Cond.holds, Cond.value]), lw_limb hp limb_1_2 (fun args s t => Cond.after_iff.mpr (by
  first | (rw [show limb_1_2 = Cond.eq .result (.int 1) from rfl, Cond.eq_ints (x := 1) (y := 1) rfl rfl]; simp; done) | (simp [limb_1_2, Cond.value, Term.eval]; done)))⟩
