/-! SOUND 21: throws, new exceptions, Object's constructor, instanceof, arraycopy -/
set_option maxRecDepth 100000
theorem SM.newR {l : Launch} {k : MI} {d pc nx c n cost : Nat} {ls st st' : List Value} {h h' : HP} {o : AO} (H0 : SM l k d nx ls (.ref (hsz h) :: st') (hnew h c n cost) o h') (h7 : c ≠ 7) (hst : vokL h st → vokL h st')
    (row : ∀ (p : Program) (e : Env) (s : State) (m : MethodId) (args : Array Value) (below : List Frame) (meth : Method) (c0 : Code) (G : GX), FX k p s m args meth c0 G →
      ∀ (R : Room) (Q : State → Prop) (loc : Nat → Nat) (H : Heap) (locs : List Loc) (cells slots : Nat) (la : Array Slot), HR G loc h H → va_S (gA G) s.heap H locs → vokL h st → hsz h + 1 ≤ strB → cells + 1 ≤ R.cells → slots + cost ≤ R.slots → 10 ≤ R.frames ∧ 200 ≤ R.locals → lv_has la k.2.2.1 (prs G loc 0 ls) →
      (∀ (q : Nat) (H1 : Heap) (E : va_E), E = EE G (up1 loc (hsz h) q) (hnew h c n cost) (hsz h) → va_P (gD G) clT (wsA G loc h ++ [(q, E)]) H1 → va_D (gA G) (wsA G loc h ++ [(q, E)]) → va_S (gA G) s.heap H1 locs → W p l e R s m args below meth c0 H1 locs (cells + 1) (slots + cost) Q (F0 m nx la (.ref q :: st'.map (cv G loc)))) → W p l e R s m args below meth c0 H locs cells slots Q (F0 m pc la (st.map (cv G loc)))) :
    SM l k d pc ls st h o h' := by
  obtain ⟨⟨m1, m2, m3⟩, hw⟩ := H0
  have m1 : hnc h + 1 ≤ hnc h' := m1
  have m2 : hns h + cost ≤ hns h' := m2
  have m3 : hsz h + 1 ≤ hsz h' := m3
  have hvl : ∀ L, vokL h L → vokL (hnew h c n cost) L := fun L hL v hv => vok_new (hL v hv)
  have hv1 : vok (hnew h c n cost) (.ref (hsz h)) := Or.inr (Or.inl (Nat.lt_succ_self _))
  refine ⟨⟨by omega, by omega, by omega⟩, fun hz => ?_⟩
  obtain ⟨hvo, hw⟩ := hw hz
  refine ⟨fun z a b => hvo z.new (hvl _ a) (vokL_c hv1 (hvl _ (hst b))), ?_⟩
  intro p e s m args below meth c0 G F loc H locs cells slots la hr hS hl v1 v2 hla
  refine row p e s m args below meth c0 G F _ _ loc H locs cells slots la hr hS v2 (Nat.le_trans m3 hz) (by show cells + 1 ≤ cells + (hnc h' - hnc h); omega) (by show slots + cost ≤ slots + (hns h' - hns h); omega) ⟨by show 10 ≤ d + 10; omega, by show 200 ≤ 64 * d + 200; omega⟩ hla ?_
  intro q H1 E hE hP hD hS1
  have hbA : ¬ gA G (gb G) := F.kf.2.2.2.2.2.2.2.2.1
  have hr1 := hr.new h7 hbA hE.symm hP hD
  have hlq : ∀ a, a < hsz h → up1 loc (hsz h) q a = loc a := fun a ha => up1_ne (Nat.ne_of_lt ha)
  have := hw p e s m args below meth c0 G F _ H1 locs (cells + 1) (slots + cost) la hr1 hS1 hl (hvl _ v1) (vokL_c hv1 (hvl _ (hst v2))) (by rw [prs_eq hlq 0 ls v1]; exact hla)
  rw [show hnc (hnew h c n cost) = hnc h + 1 from rfl, show hns (hnew h c n cost) = hns h + cost from rfl, show hsz (hnew h c n cost) = hsz h + 1 from rfl, show cells + 1 + (hnc h' - (hnc h + 1)) = cells + (hnc h' - hnc h) by omega, show slots + cost + (hns h' - (hns h + cost)) = slots + (hns h' - hns h) by omega] at this
  rw [List.map_cons, map_cv_eq hlq (hst v2), show cv G (up1 loc (hsz h) q) (.ref (hsz h)) = .ref q by
    show cr G _ _ = _
    rw [cr_loc hr.1.2.2.2 (Nat.lt_succ_self _) (Nat.le_trans m3 hz), up1_eq]] at this
  refine W.imp (vx_MQ.imp ?_ ?_) this
  · rintro oc t ⟨⟨v, loc', a1, a2, a3⟩, a4⟩
    exact ⟨⟨v, loc', a1, fun a ha => (a2 a (Nat.lt_succ_of_lt ha)).trans (hlq a ha), a3⟩, a4⟩
  · rintro EN qa t ⟨⟨r, loc', a1, a2, a3⟩, a4⟩
    exact ⟨⟨r, loc', a1, fun a ha => (a2 a (Nat.lt_succ_of_lt ha)).trans (hlq a ha), a3⟩, a4⟩
theorem SM.pureR {l : Launch} {k : MI} {d pc nx : Nat} {ls ls' st st' : List Value} {h h' : HP} {o : AO} (H0 : SM l k d nx ls' st' h o h')
    (hlen : ls.length = k.2.2.1 → ls'.length = k.2.2.1) (hv : HC h → vokL h ls → vokL h st → vokL h ls' ∧ vokL h st')
    (row : ∀ (p : Program) (e : Env) (s : State) (m : MethodId) (args : Array Value) (below : List Frame) (meth : Method) (c : Code) (G : GX), FX k p s m args meth c G →
      ∀ (R : Room) (Q : State → Prop) (loc : Nat → Nat) (H : Heap) (locs : List Loc) (cells slots : Nat) (la : Array Slot), HR G loc h H → va_S (gA G) s.heap H locs → ls.length = k.2.2.1 → vokL h ls → vokL h st → hsz h ≤ strB → lv_has la k.2.2.1 (prs G loc 0 ls) → 10 ≤ R.frames ∧ 200 ≤ R.locals →
      (∀ la' : Array Slot, lv_has la' k.2.2.1 (prs G loc 0 ls') → W p l e R s m args below meth c H locs cells slots Q (F0 m nx la' (st'.map (cv G loc)))) → W p l e R s m args below meth c H locs cells slots Q (F0 m pc la (st.map (cv G loc)))) :
    SM l k d pc ls st h o h' := by
  obtain ⟨hm, hw⟩ := H0
  refine ⟨hm, fun hz => ?_⟩
  obtain ⟨hvo, hw⟩ := hw hz
  refine ⟨fun z a b => hvo z (hv z a b).1 (hv z a b).2, ?_⟩
  intro p e s m args below meth c G F loc H locs cells slots la hr hS hl v1 v2 hla
  refine row p e s m args below meth c G F _ _ loc H locs cells slots la hr hS hl v1 v2 (Nat.le_trans hm.2.2 hz) hla ⟨by show 10 ≤ d + 10; omega, by show 200 ≤ 64 * d + 200; omega⟩ (fun la' hla' => ?_)
  exact hw p e s m args below meth c G F loc H locs cells slots la' hr hS (hlen hl) (hv hr.1 v1 v2).1 (hv hr.1 v1 v2).2 hla'
theorem SM.putR {l : Launch} {k : MI} {d pc nx : Nat} {ls st st' : List Value} {h h1 h' : HP} {o : AO} (H0 : SM l k d nx ls st' h1 o h') (hn : hnc h1 = hnc h) (hs : hns h1 = hns h) (hz1 : hsz h1 = hsz h)
    (hv : HC h → vokL h st → vokL h st' ∧ HC h1)
    (row : ∀ (p : Program) (e : Env) (s : State) (m : MethodId) (args : Array Value) (below : List Frame) (meth : Method) (c : Code) (G : GX), FX k p s m args meth c G →
      ∀ (R : Room) (Q : State → Prop) (loc : Nat → Nat) (H : Heap) (locs : List Loc) (cells slots : Nat) (la : Array Slot), HR G loc h H → va_S (gA G) s.heap H locs → vokL h st → hsz h ≤ strB → 10 ≤ R.frames ∧ 200 ≤ R.locals → lv_has la k.2.2.1 (prs G loc 0 ls) →
      (∀ (H1 : Heap) (locs1 : List Loc), HR G loc h1 H1 → va_S (gA G) s.heap H1 locs1 → W p l e R s m args below meth c H1 locs1 cells slots Q (F0 m nx la (st'.map (cv G loc)))) → W p l e R s m args below meth c H locs cells slots Q (F0 m pc la (st.map (cv G loc)))) :
    SM l k d pc ls st h o h' := by
  obtain ⟨hm, hw⟩ := H0
  rw [hn, hs, hz1] at hm
  have hvv : ∀ L, vokL h L → vokL h1 L := fun L hL v hv => by
    have := hL v hv
    cases v <;> first | exact this | (simp only [vok, rok, hz1] at this ⊢; exact this)
  refine ⟨hm, fun hz => ?_⟩
  obtain ⟨hvo, hw⟩ := hw hz
  refine ⟨fun z a b => hvo (hv z b).2 (hvv _ a) (hvv _ (hv z b).1), ?_⟩
  intro p e s m args below meth c G F loc H locs cells slots la hr hS hl v1 v2 hla
  refine row p e s m args below meth c G F _ _ loc H locs cells slots la hr hS v2 (Nat.le_trans hm.2.2 hz) ⟨by show 10 ≤ d + 10; omega, by show 200 ≤ 64 * d + 200; omega⟩ hla (fun H1 locs1 hr1 hS1 => ?_)
  have := hw p e s m args below meth c G F loc H1 locs1 cells slots la hr1 hS1 hl (hvv _ v1) (hvv _ (hv hr.1 v2).1) hla
  rw [hn, hs, hz1] at this
  exact this
theorem exT_cl : ∀ c ∈ exT, 7 < c ∧ ∃ (T : u_T) (N : Nat), clT[clI c]? = some (exN c, T, N) := by
  intro c hc
  simp only [exT, List.mem_cons, List.not_mem_nil, or_false] at hc
  rcases hc with rfl | rfl | rfl | rfl | rfl | rfl | rfl | rfl | rfl | rfl | rfl <;> exact ⟨by decide, _, _, rfl⟩
/-- an object's cell over there -/
theorem HR.cell {k : MI} {p : Program} {s : State} {mm : MethodId} {args : Array Value} {meth : Method} {c0 : Code} {G : GX} (F : FX k p s mm args meth c0 G) {loc : Nat → Nat} {h : HP} {H : Heap} (hr : HR G loc h H) {a c : Nat} (ha : hcls h a = c) (hc : 7 < c) {C : String} {T : u_T} {N : Nat} (hcl : clT[clI c]? = some (C, T, N)) :
    ∃ cell : Cell, H[loc a]? = some cell ∧ cell.vm = .none ∧ s.vm.findClass C = some cell.cls := by
  obtain ⟨cell, h1, -, h3⟩ := hr.recv F ha hc hcl
  have hat := (hr.at ha (by omega) (by omega)).1
  rw [EE_obj ha hc] at hat
  obtain ⟨-, -, cell', q1, -, q3, -⟩ := hat
  rw [h1] at q1
  cases q1
  exact ⟨cell, h1, q3, h3⟩
section
variable {l : Launch} {m pc : Nat} {cc : ByteArray} {xt : XT}
theorem ss_thr (eb : (miT m).2.1 = cc) (hd : decode cc pc = .ok (.athrow, 1)) (hX : XOK (miT m).1.cls xt (miT m).2.2.2.2) : SS l m pc (op_thr pc xt) := by
  intro d ls st h Q C' K' T' hC hK hT H
  unfold op_thr at H
  split at H
  · rename_i r rest
    obtain ⟨h0, hx, H⟩ := H
    obtain ⟨o2, h2, hq, hs⟩ := xgo_pick hK hT xt H
    have hcx : hcls h r ∈ exT := List.contains_iff_mem.mp hx
    obtain ⟨hc7, T, N, hcl⟩ := exT_cl _ hcx
    have hvr : HC h → vokO h (.inr r) := fun z => ⟨(z.2.2.1 r (by omega)).1, (z.2.2.1 r (by omega)).2, hx⟩
    refine ⟨o2, h2, ⟨TJ.le _ hs, fun hz => ⟨fun z a b => TJ.vo hz z a (hvr z) _ hs, ?_⟩⟩, hq⟩
    intro p e s mm args below meth c G F loc HH locs cells slots la hr hS hl v1 v2 hla
    obtain ⟨ce, q1, q2, q3⟩ := hr.cell F rfl hc7 hcl
    have hw := TJ.w (e := e) (below := below) (cells := cells) (slots := slots) (rest := rest.map (cv G loc)) (h := h) hz ⟨Nat.le_refl _, Nat.le_refl _, Nat.le_refl _⟩ F (fun _ _ => rfl) hr hS hl v1 hla (hvr hr.1) q1 q2 q3 xt _ [] F.tab (fun _ z => by cases z) hX hs
    rw [Nat.sub_self, Nat.sub_self, Nat.add_zero, Nat.add_zero] at hw
    rw [List.map_cons, show cv G loc (.ref r) = .ref (loc r) from cr_loc (hvr hr.1).1 (hvr hr.1).2.1 (Nat.le_trans (TJ.le _ hs).2.2 hz)]
    exact vx_athrow F.1 (F.2.1.trans eb) hd hw
  · exact H.elim
/-- a word of ours, if it speaks of the tables alone -/
def wOK (w : Cond) : Prop := vx_no w = true → w ∈ lw_all ∨ (w ∈ nwT ∧ w.onTables = true)
theorem wOK.ot {w : Cond} (h : w ∈ lw_all ∨ (w ∈ nwT ∧ w.onTables = true)) : vx_ot w = true := by
  unfold vx_ot
  rcases h with h | h
  · rw [(List.mem_filter.mp h).2, Bool.or_true]
  · rw [h.2, Bool.true_or]
/-- what is said of an exception's class: made by new at the constant ik, its constructor at ic -/
def EXF (own cls : String) (names : List String) (ik ic c : Nat) : Prop := 7 < c ∧ flT c = [] ∧ (∃ T : u_T, clT[clI c]? = some (cls, T, 0)) ∧ names.length ≤ 3 ∧ Bundle.fit cls = true ∧ (∀ n ∈ names, Bundle.fit n = true) ∧ Cond.classLink own ik cls ∈ lw_all ∧ Cond.initialized cls ∈ lw_all ∧
  ∀ w ∈ Bundle.ownAtoms0 own ic cls names, wOK w
theorem ss_exc {own cls : String} {names : List String} {ik ic c : Nat} (hl0 : l.stackTraces = false) (eb : (miT m).2.1 = cc) (eo : (miT m).1.cls = own) (d0 : decode cc pc = .ok (.new ik, 3)) (d3 : decode cc (pc + 3) = .ok (.dup, 1)) (d4 : decode cc (pc + 4) = .ok (.invokespecial ic, 3)) (hE : EXF own cls names ik ic c) : SS l m pc (op_exc c (pc + 7)) := by
  intro d ls st h Q C' K' T' hC hK hT H
  unfold op_exc at H
  cases hk8 : stk 8 st with
  | false => rw [hk8] at H; exact H.elim
  | true =>
    rw [hk8] at H
    simp only [cond_true] at H
    obtain ⟨o, h', hs, hq⟩ := hK _ _ _ _ (H _ _ rfl rfl)
    obtain ⟨hc, hfl, ⟨T, hcl⟩, hnl, f1, f2, w1, w2, w0⟩ := hE
    have w3 : ∀ w ∈ vx_at0 own ic cls names, w ∈ lw_all ∨ (w ∈ nwT ∧ w.onTables = true) := fun w hw => w0 w (List.mem_filter.mp hw).1 (List.mem_filter.mp hw).2
    have w4 : ∀ w ∈ Cond.classLink own ik cls :: Cond.initialized cls :: vx_at0 own ic cls names, vx_ot w = true := List.forall_mem_cons.mpr ⟨wOK.ot (Or.inl w1), List.forall_mem_cons.mpr ⟨wOK.ot (Or.inl w2), fun w hw => wOK.ot (w3 w hw)⟩⟩
    refine ⟨o, h', SM.newR hs (by omega) (fun z => z) ?_, hq⟩
    intro p e s mm args below meth c0 G F R QQ loc HH locs cells slots la hr hS v2 hz hcells hslots hR hla kk
    have hown : s.vm.findClass own = some mm.cls := by rw [← eo]; exact F.2.2.2.1
    have hcat := stk_cat (G := G) (loc := loc) st 8 hk8
    refine vx_make0 (T0 := T) F.1 (F.2.1.trans eb) hl0 hown f1 f2 (F.hts _ w1) (F.hts _ w2) (fun w hw => ?_) w4 F.kf.2.2.2.2.1 F.kf.2.2.2.2.2.1 hS (hla.1.trans F.2.2.1.symm) d0 d3 d4 F.kf.1 hr.P hr.D F.hA hcl (by omega) (by omega) hcells hslots ?_
    · rcases w3 w hw with q | q
      · exact F.hts _ q
      · exact va_Nw.use q.2 (F.kf.2.1 _ q.1)
    · intro q H1 hP hD hS1
      refine kk q H1 _ ?_ hP hD hS1
      rw [EE_obj cl_new hc, hfl]
      rfl
/-- Object's constructor -/
theorem ss_oi {own : String} {idx : Nat} (eb : (miT m).2.1 = cc) (eo : (miT m).1.cls = own) (hd : decode cc pc = .ok (.invokespecial idx, 3)) (w1 : Cond.methodLink own idx Lib.objectInit ∈ lw_all) (w2 : Cond.instanceMethod Lib.objectInit ∈ lw_all) (w3 : Cond.code Lib.objectInit ⟨#[0xb1]⟩ 1 none ∈ lw_all) : SS l m pc (op_oi (pc + 3)) := by
  intro d ls st h Q C' K' T' hC hK hT H
  unfold op_oi at H
  split at H
  · rename_i a rest
    cases hk8 : stk 8 rest with
    | false => rw [hk8] at H; exact H.elim
    | true =>
      rw [hk8] at H
      simp only [cond_true] at H
      obtain ⟨ha, H⟩ := H
      obtain ⟨o, h', hs, hq⟩ := hK _ _ _ _ H
      refine ⟨o, h', SM.pureR hs (fun z => z) (fun z a b => ⟨a, vokL_t b⟩) ?_, hq⟩
      intro p e s mm args below meth c0 G F R QQ loc HH locs cells slots la hr hS hl v1 v2 hz hla hR kk
      have hown : s.vm.findClass own = some mm.cls := by rw [← eo]; exact F.2.2.2.1
      have hcat := stk_cat (G := G) (loc := loc) rest 8 hk8
      obtain ⟨ha0, ha1⟩ := hr.1.2.2.1 a ha
      rw [List.map_cons, show cv G loc (.ref a) = .ref (loc a) from cr_loc ha0 ha1 hz]
      exact W.objInit F.1 (F.2.1.trans eb) hown (F.hts _ w1) (F.hts _ w2) (F.hts _ w3) (g := F0 mm pc la (.ref (loc a) :: rest.map (cv G loc))) rfl (hla.1.trans F.2.2.1.symm) rfl hd (by omega) (by show 2 * 0 + _ + 12 ≤ _; omega) (kk la hla)
  · exact H.elim
/-- instanceof -/
theorem ss_iof {ok cs : List Nat} {own nm : String} {idx : Nat} (eb : (miT m).2.1 = cc) (eo : (miT m).1.cls = own) (hd : decode cc pc = .ok (.instanceof idx, 3)) (hw : Cond.classLink own idx nm ∈ lw_all)
    (hf : ∀ c ∈ ok, 7 < c ∧ ∃ (C : String) (T : u_T) (N : Nat), clT[clI c]? = some (C, T, N) ∧ (inC cs c = true → Cond.castable C nm ∈ nwT ∨ C = nm) ∧ (¬ inC cs c = true → (C, nm) ∈ ncT)) : SS l m pc (op_iof ok cs (pc + 3)) := by
  intro d ls st h Q C' K' T' hC hK hT H
  unfold op_iof at H
  split at H
  · rename_i a rest
    obtain ⟨ha, H⟩ := H
    obtain ⟨hc, C, T, N, hcl, hy, hn⟩ := hf _ (List.contains_iff_mem.mp ha)
    by_cases hb : inC cs (hcls h a) = true
    · obtain ⟨o, h', hs, hq⟩ := hK _ _ _ _ (H.1 hb)
      refine ⟨o, h', SM.pure hs (fun z => z) (fun z a b => ⟨a, vokL_c trivial (vokL_t b)⟩) ?_, hq⟩
      intro p e s mm args below meth c0 G F R QQ loc HH locs cells slots la hr hS hl v1 v2 hz hla kk
      have hown : s.vm.findClass own = some mm.cls := by rw [← eo]; exact F.2.2.2.1
      obtain ⟨-, -, ha0, ha1⟩ := hr.at (a := a) (c := hcls h a) rfl (by omega) (by omega)
      have kk := kk la hla
      have hrc := hr.recv F rfl hc hcl
      rw [List.map_cons, show cv G loc (.ref a) = .ref (loc a) from cr_loc ha0 ha1 hz]
      rcases hy hb with q | q
      · exact va_instY F.1 (F.2.1.trans eb) hown (F.hts _ hw) (F.kf.2.1 _ q) hrc hd kk
      · subst q
        exact va_instS F.1 (F.2.1.trans eb) hown (F.hts _ hw) (F.kf.1.1 _ _ hcl).2 hrc hd kk
    · obtain ⟨o, h', hs, hq⟩ := hK _ _ _ _ (H.2 hb)
      refine ⟨o, h', SM.pure hs (fun z => z) (fun z a b => ⟨a, vokL_c trivial (vokL_t b)⟩) ?_, hq⟩
      intro p e s mm args below meth c0 G F R QQ loc HH locs cells slots la hr hS hl v1 v2 hz hla kk
      have hown : s.vm.findClass own = some mm.cls := by rw [← eo]; exact F.2.2.2.1
      obtain ⟨-, -, ha0, ha1⟩ := hr.at (a := a) (c := hcls h a) rfl (by omega) (by omega)
      have kk := kk la hla
      have hrc := hr.recv F rfl hc hcl
      rw [List.map_cons, show cv G loc (.ref a) = .ref (loc a) from cr_loc ha0 ha1 hz]
      exact va_instNo F.1 (F.2.1.trans eb) hown (F.hts _ hw) (F.kf.2.2.1 _ (hn hb)) hrc hd kk
  · exact H.elim
end
