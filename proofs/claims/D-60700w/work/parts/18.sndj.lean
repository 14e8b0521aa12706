/-! SOUND 19: calls, what is thrown -/
set_option maxRecDepth 100000
theorem stk_cat {G : GX} {loc : Nat → Nat} : ∀ (st : List Value) (n : Nat), stk n st = true → ((st.map (cv G loc)).map fun v => v.category).sum ≤ n
  | [], n, _ => Nat.zero_le _
  | .long x :: t, n + 2, h => by
    have := stk_cat (G := G) (loc := loc) t n h
    simp only [List.map_cons, List.sum_cons]
    have e : (cv G loc (.long x)).category = 2 := rfl
    omega
  | .int x :: t, n + 1, h => by
    have := stk_cat (G := G) (loc := loc) t n (by simpa [stk] using h)
    simp only [List.map_cons, List.sum_cons]
    have e : (cv G loc (.int x)).category = 1 := rfl
    omega
  | .ref x :: t, n + 1, h => by
    have := stk_cat (G := G) (loc := loc) t n (by simpa [stk] using h)
    simp only [List.map_cons, List.sum_cons]
    have e : (cv G loc (.ref x)).category = 1 := cr_cat G loc x
    omega
  | .long x :: t, 0, h => by simp [stk] at h
  | .long x :: t, 1, h => by simp [stk] at h
  | .int x :: t, 0, h => by simp [stk] at h
  | .ref x :: t, 0, h => by simp [stk] at h
  | .null :: t, n, h => by cases n with | zero => simp [stk] at h | succ n => cases n <;> simp [stk] at h
  | .float x :: t, n, h => by cases n with | zero => simp [stk] at h | succ n => cases n <;> simp [stk] at h
  | .double x :: t, n, h => by cases n with | zero => simp [stk] at h | succ n => cases n <;> simp [stk] at h
  | .retAddr x :: t, n, h => by cases n with | zero => simp [stk] at h | succ n => cases n <;> simp [stk] at h
theorem stn_split : ∀ (n : Nat) (st acc : List Value), stn n st = true → (ltake n st acc).reverse ++ ldrop n st = acc.reverse ++ st ∧ (ltake n st acc).length = n + acc.length ∧ stk 8 (ldrop n st) = true ∧ (∀ v ∈ ltake n st acc, v ∈ acc ∨ v ∈ st) ∧ ∀ v ∈ ldrop n st, v ∈ st
  | 0, st, acc, h => ⟨rfl, by simp [ltake], h, fun v hv => Or.inl hv, fun v hv => hv⟩
  | n + 1, [], acc, h => by simp [stn] at h
  | n + 1, v :: t, acc, h => by
    obtain ⟨a, b, c, d, e⟩ := stn_split n t (v :: acc) h
    refine ⟨?_, ?_, c, ?_, fun w hw => List.mem_cons_of_mem _ (e w hw)⟩
    · show (ltake n t (v :: acc)).reverse ++ ldrop n t = acc.reverse ++ v :: t
      rw [a, List.reverse_cons, List.append_assoc]
      rfl
    · show (ltake n t (v :: acc)).length = n + 1 + acc.length
      rw [b, List.length_cons]
      omega
    · intro w hw
      rcases d w hw with z | z
      · rcases List.mem_cons.mp z with z | z
        · exact Or.inr (z ▸ List.mem_cons_self)
        · exact Or.inl z
      · exact Or.inr (List.mem_cons_of_mem _ z)
theorem vok_up {h h1 : HP} (hz : hsz h ≤ hsz h1) {v : Value} (hv : vok h v) : vok h1 v := by
  cases v with
  | ref a =>
    rcases hv with z | z | z
    · exact Or.inl z
    · exact Or.inr (Or.inl (Nat.lt_of_lt_of_le z hz))
    · exact Or.inr (Or.inr z)
  | _ => exact hv
theorem vokL_up {h h1 : HP} (hz : hsz h ≤ hsz h1) {L : List Value} (hv : vokL h L) : vokL h1 L := fun v hm => vok_up hz (hv v hm)
/-- the call at pc of m runs the method m' (n values; c0: the receiver's class, 0: none is asked) -/
def CallOK (l : Launch) (m pc c0 m' n : Nat) : Prop :=
  ∀ (p : Program) (e : Env) (s : State) (mm : MethodId) (args : Array Value) (below : List Frame) (meth : Method) (c : Code) (G : GX), FX (miT m) p s mm args meth c G →
  ∀ (R rm : Room) (loc : Nat → Nat) (h : HP) (H : Heap) (locs : List Loc) (cells slots mc ms : Nat) (la : Array Slot) (as rest : List Value) (Qc : Array Value → State → Outcome → State → Prop) (X : String → Addr → State → State → Prop) (free : Addr → Prop),
    HR G loc h H → hsz h ≤ strB → la.size = (miT m).2.2.1 → as.length = n → stk 8 rest = true → (c0 ≠ 0 → ∃ (a : Nat) (as' : List Value), as = .ref a :: as' ∧ hcls h a = c0) →
    vx_Met l (miT m').1 (wsM (miT m')) rm (PcC s H (as.map (cv G loc))) Qc X mc ms free → rm.cells = mc → rm.slots = ms → rm.frames + 1 ≤ R.frames → 8 + ((miT m').2.2.1 + 11) + rm.locals ≤ R.locals → cells + mc ≤ R.cells ∧ slots + ms ≤ R.slots →
    vx_Run p l e R s mm args below meth c H locs cells slots mc ms (F0 mm pc la ((as.reverse ++ rest).map (cv G loc))) (rest.map (cv G loc)) (Qc (as.map (cv G loc)).toArray) X free
/-- the rows of the exception table, and what is known of their classes -/
def XOK (own : String) : XT → List (Nat × Nat × Nat × Nat) → Prop
  | [], [] => True
  | q :: t, z :: u => (z.1 = q.1 ∧ z.2.1 = q.2.1 ∧ z.2.2.1 = q.2.2.1 ∧ z.2.2.2 ≠ 0 ∧ ∃ nm : String, Cond.classLink own z.2.2.2 nm ∈ lw_all ∧ ∀ c ∈ exT, (inC q.2.2.2 c = true → Cond.castable (exN c) nm ∈ nwT) ∧ (¬ inC q.2.2.2 c = true → (exN c, nm) ∈ ncT)) ∧ XOK own t u
  | _, _ => False
/-- behind a throw of r: it ends with o2 in h2 -/
def TJ (l : Launch) (k : MI) (d pc : Nat) (xt : XT) (ls : List Value) (h : HP) (r : Nat) (o2 : AO) (h2 : HP) : Prop :=
  xgo (fun pc ls st h => SM l k d pc ls st h o2 h2) (fun o h => o = o2 ∧ h = h2) pc r ls h xt
theorem xgo_pick {l : Launch} {m d pc r : Nat} {K' : Kt} {T' Q : Tt} {ls : List Value} {h : HP} (hK : ∀ pc ls st h, K' pc ls st h → X0 l d m pc ls st h Q) (hT : ∀ o h, T' o h → Q o h) :
    ∀ (xt : XT), xgo K' T' pc r ls h xt → ∃ (o2 : AO) (h2 : HP), Q o2 h2 ∧ TJ l (miT m) d pc xt ls h r o2 h2
  | [], H => ⟨_, _, hT _ _ H, rfl, rfl⟩
  | q :: t, H => by
    unfold xgo at H
    unfold TJ xgo
    cases hb : (Nat.ble q.1 pc && Nat.blt pc q.2.1) with
    | false =>
      rw [hb] at H
      exact xgo_pick hK hT t H
    | true =>
      rw [hb] at H
      simp only [cond_true] at H ⊢
      by_cases hc : inC q.2.2.2 (hcls h r) = true
      · obtain ⟨o2, h2, hs, hq⟩ := hK _ _ _ _ (H.1 hc)
        exact ⟨o2, h2, hq, fun _ => hs, fun z => absurd hc z⟩
      · obtain ⟨o2, h2, hq, hs⟩ := xgo_pick hK hT t (H.2 hc)
        exact ⟨o2, h2, hq, fun z => absurd z hc, fun _ => hs⟩
/-- what TJ gives of the numbers -/
theorem TJ.le {l : Launch} {k : MI} {d pc r : Nat} {ls : List Value} {h h2 : HP} {o2 : AO} : ∀ (xt : XT), TJ l k d pc xt ls h r o2 h2 → hnc h ≤ hnc h2 ∧ hns h ≤ hns h2 ∧ hsz h ≤ hsz h2
  | [], H => by
    have H : (.inr r : AO) = o2 ∧ h = h2 := H
    rw [H.2]
    exact ⟨Nat.le_refl _, Nat.le_refl _, Nat.le_refl _⟩
  | q :: t, H => by
    unfold TJ xgo at H
    cases hb : (Nat.ble q.1 pc && Nat.blt pc q.2.1) with
    | false =>
      rw [hb] at H
      exact TJ.le t H
    | true =>
      rw [hb] at H
      simp only [cond_true] at H
      by_cases hc : inC q.2.2.2 (hcls h r) = true
      · exact (H.1 hc).1
      · exact TJ.le t (H.2 hc)
theorem TJ.vo {l : Launch} {k : MI} {d pc r : Nat} {ls : List Value} {h h2 : HP} {o2 : AO} (hz : hsz h2 ≤ strB) (hc0 : HC h) (hl : vokL h ls) (hr : vokO h (.inr r)) : ∀ (xt : XT), TJ l k d pc xt ls h r o2 h2 → HC h2 ∧ vokO h2 o2
  | [], H => by
    have H : (.inr r : AO) = o2 ∧ h = h2 := H
    rw [← H.2, ← H.1]
    exact ⟨hc0, hr⟩
  | q :: t, H => by
    unfold TJ xgo at H
    cases hb : (Nat.ble q.1 pc && Nat.blt pc q.2.1) with
    | false =>
      rw [hb] at H
      exact TJ.vo hz hc0 hl hr t H
    | true =>
      rw [hb] at H
      simp only [cond_true] at H
      by_cases hc : inC q.2.2.2 (hcls h r) = true
      · exact ((H.1 hc).2 hz).1 hc0 hl (vokL_c (Or.inr (Or.inl hr.2.1)) (fun _ z => by cases z))
      · exact TJ.vo hz hc0 hl hr t (H.2 hc)
section
variable {l : Launch} {k : MI} {d : Nat} {p : Program} {e : Env} {s : State} {mm : MethodId} {args : Array Value} {below : List Frame} {meth : Method} {c : Code} {G : GX} {loc loc' : Nat → Nat} {H1 : Heap} {locs1 : List Loc} {cells slots : Nat} {la : Array Slot} {ls st : List Value} {h h1 h2 : HP} {o2 : AO}
/-- on from a state behind a call -/
theorem SM.after {pc : Nat} (hs : SM l k d pc ls st h1 o2 h2) (hz : hsz h2 ≤ strB) (hm : hnc h ≤ hnc h1 ∧ hns h ≤ hns h1 ∧ hsz h ≤ hsz h1) (F : FX k p s mm args meth c G) (hl' : ∀ a, a < hsz h → loc' a = loc a) (hr1 : HR G loc' h1 H1) (hS1 : va_S (gA G) s.heap H1 locs1)
    (hlen : ls.length = k.2.2.1) (v1 : vokL h ls) (v2 : vokL h1 st) (hla : lv_has la k.2.2.1 (prs G loc 0 ls)) :
    W p l e (RM d (cells + (hnc h2 - hnc h)) (slots + (hns h2 - hns h))) s mm args below meth c H1 locs1 (cells + (hnc h1 - hnc h)) (slots + (hns h1 - hns h)) (vx_MQ below (QC G loc (hsz h) o2 h2) (XC G loc (hsz h) o2 h2) args s (cells + (hnc h2 - hnc h)) (slots + (hns h2 - hns h)) (gA G)) (F0 mm pc la (st.map (cv G loc'))) := by
  obtain ⟨⟨n1, n2, n3⟩, hw⟩ := hs
  obtain ⟨m1, m2, m3⟩ := hm
  have := (hw hz).2 p e s mm args below meth c G F loc' H1 locs1 (cells + (hnc h1 - hnc h)) (slots + (hns h1 - hns h)) la hr1 hS1 hlen (vokL_up m3 v1) v2 (by rw [prs_eq hl' 0 ls v1]; exact hla)
  rw [show cells + (hnc h1 - hnc h) + (hnc h2 - hnc h1) = cells + (hnc h2 - hnc h) by omega, show slots + (hns h1 - hns h) + (hns h2 - hns h1) = slots + (hns h2 - hns h) by omega] at this
  refine W.imp (vx_MQ.imp ?_ ?_) this
  · rintro oc t ⟨⟨v, loc2, a1, a2, a3⟩, a4⟩
    exact ⟨⟨v, loc2, a1, fun a ha => (a2 a (Nat.lt_of_lt_of_le ha m3)).trans (hl' a ha), a3⟩, a4⟩
  · rintro EN qa t ⟨⟨r, loc2, a1, a2, a3⟩, a4⟩
    exact ⟨⟨r, loc2, a1, fun a ha => (a2 a (Nat.lt_of_lt_of_le ha m3)).trans (hl' a ha), a3⟩, a4⟩
theorem cov_b {q : Nat × Nat × Nat × List Nat} {z : Nat × Nat × Nat × Nat} (e1 : z.1 = q.1) (e2 : z.2.1 = q.2.1) (pc : Nat) : covers (⟨z.1, z.2.1, z.2.2.1, z.2.2.2⟩ : ExceptionTableEntry) pc = (Nat.ble q.1 pc && Nat.blt pc q.2.1) := by
  show (decide (z.1 ≤ pc) && decide (pc < z.2.1)) = _
  rw [e1, e2]
  congr 1
  · by_cases hh : q.1 ≤ pc
    · rw [decide_eq_true hh, Nat.ble_eq_true_of_le hh]
    · rw [decide_eq_false hh]
      cases hb : Nat.ble q.1 pc with
      | false => rfl
      | true => exact absurd (Nat.le_of_ble_eq_true hb) hh
  · by_cases hh : pc < q.2.1
    · rw [decide_eq_true hh]
      exact (Nat.ble_eq_true_of_le hh).symm
    · rw [decide_eq_false hh]
      cases hb : Nat.blt pc q.2.1 with
      | false => rfl
      | true => exact absurd (Nat.le_of_ble_eq_true hb) hh
/-- from a throw of r over this method's frame -/
theorem TJ.w {pc r : Nat} {rest : List Value} {ce : Cell} (hz : hsz h2 ≤ strB) (hm : hnc h ≤ hnc h1 ∧ hns h ≤ hns h1 ∧ hsz h ≤ hsz h1) (F : FX k p s mm args meth c G) (hl' : ∀ a, a < hsz h → loc' a = loc a) (hr1 : HR G loc' h1 H1) (hS1 : va_S (gA G) s.heap H1 locs1)
    (hlen : ls.length = k.2.2.1) (v1 : vokL h ls) (hla : lv_has la k.2.2.1 (prs G loc 0 ls)) (hvr : vokO h1 (.inr r)) (hce : H1[loc' r]? = some ce) (hcv : ce.vm = .none) (hcl : s.vm.findClass (exN (hcls h1 r)) = some ce.cls) :
    ∀ (xt : XT) (hh : List (Nat × Nat × Nat × Nat)) (pre : List ExceptionTableEntry), c.exceptionTable.toList = pre ++ tableOf hh →
      (∀ z ∈ pre, covers z pc = false ∨ (z.catchType ≠ 0 ∧ ∃ nm : String, (Cond.classLink k.1.cls z.catchType nm).before args s = true ∧ va_Nc (exN (hcls h1 r)) nm s)) →
      XOK k.1.cls xt hh → TJ l k d pc xt ls h1 r o2 h2 →
      vx_W p l e (RM d (cells + (hnc h2 - hnc h)) (slots + (hns h2 - hns h))) s mm args below meth c H1 locs1 (cells + (hnc h1 - hnc h)) (slots + (hns h1 - hns h)) (vx_MQ below (QC G loc (hsz h) o2 h2) (XC G loc (hsz h) o2 h2) args s (cells + (hnc h2 - hnc h)) (slots + (hns h2 - hns h)) (gA G)) (F0 mm pc la rest) (loc' r)
  | [], [], pre, ht, hp, _, H => by
    have H : (.inr r : AO) = o2 ∧ h1 = h2 := H
    obtain ⟨rfl, rfl⟩ := H
    refine vx_outP F.2.2.2.1 F.locks (fun z hz => hp z (by rw [ht] at hz; simpa [tableOf] using hz)) hce hcv hcl (fun t ht _ => ⟨⟨r, loc', rfl, hl', rfl, rfl, by rw [ht]; exact hr1⟩, hS1.F ht⟩) hS1.2.2 (Nat.le_refl _) (Nat.le_refl _)
  | q :: t, z :: u, pre, ht, hp, ⟨⟨e1, e2, e3, e4, nm, hlk, hcs⟩, hX⟩, H => by
    unfold TJ xgo at H
    have hcx : hcls h1 r ∈ exT := List.contains_iff_mem.mp hvr.2.2
    have htt : c.exceptionTable.toList = (pre ++ [(⟨z.1, z.2.1, z.2.2.1, z.2.2.2⟩ : ExceptionTableEntry)]) ++ tableOf u := by rw [ht]; simp [tableOf]
    have next : (covers (⟨z.1, z.2.1, z.2.2.1, z.2.2.2⟩ : ExceptionTableEntry) pc = false ∨ (z.2.2.2 ≠ 0 ∧ ∃ nm : String, (Cond.classLink k.1.cls z.2.2.2 nm).before args s = true ∧ va_Nc (exN (hcls h1 r)) nm s)) → TJ l k d pc t ls h1 r o2 h2 → vx_W p l e (RM d (cells + (hnc h2 - hnc h)) (slots + (hns h2 - hns h))) s mm args below meth c H1 locs1 (cells + (hnc h1 - hnc h)) (slots + (hns h1 - hns h)) (vx_MQ below (QC G loc (hsz h) o2 h2) (XC G loc (hsz h) o2 h2) args s (cells + (hnc h2 - hnc h)) (slots + (hns h2 - hns h)) (gA G)) (F0 mm pc la rest) (loc' r) := fun hq H' =>
      TJ.w (rest := rest) hz hm F hl' hr1 hS1 hlen v1 hla hvr hce hcv hcl t u (pre ++ [(⟨z.1, z.2.1, z.2.2.1, z.2.2.2⟩ : ExceptionTableEntry)]) htt (fun y hy => by
        rcases List.mem_append.mp hy with w | w
        · exact hp y w
        · rw [List.mem_singleton.mp w]; exact hq) hX H'
    have hcb := cov_b (q := q) (z := z) e1 e2 pc
    cases hb : (Nat.ble q.1 pc && Nat.blt pc q.2.1) with
    | false =>
      rw [hb] at H
      exact next (Or.inl (hcb.trans hb)) H
    | true =>
      rw [hb] at H
      simp only [cond_true] at H
      by_cases hc : inC q.2.2.2 (hcls h1 r) = true
      · have hs := H.1 hc
        refine vx_catch F.2.2.2.1 pre (⟨z.1, z.2.1, z.2.2.1, z.2.2.2⟩ : ExceptionTableEntry) (tableOf u) (by rw [ht]; rfl) hp (hcb.trans hb) e4 (F.hts _ hlk) (va_Nw.use rfl (F.kf.2.1 _ ((hcs _ hcx).1 hc))) hce hcv hcl ?_
        have := SM.after (e := e) (below := below) (cells := cells) (slots := slots) hs hz hm F hl' hr1 hS1 hlen v1 (vokL_c (v := .ref r) (Or.inr (Or.inl hvr.2.1)) (fun _ z => by cases z)) hla
        rw [List.map_cons, show cv G loc' (.ref r) = .ref (loc' r) from cr_loc hvr.1 hvr.2.1 (Nat.le_trans (TJ.le _ (show TJ l k d pc (q :: t) ls h1 r o2 h2 by unfold TJ xgo; rw [hb]; exact H)).2.2 hz)] at this
        show W p l e _ s mm args below meth c H1 locs1 _ _ _ (F0 mm z.2.2.1 la [.ref (loc' r)])
        rw [e3]
        exact this
      · exact next (Or.inr ⟨e4, nm, F.hts _ hlk, F.kf.2.2.1 _ ((hcs _ hcx).2 hc)⟩) (H.2 hc)
end
/-- a call -/
theorem SM.call {l : Launch} {m pc c0 m' n d : Nat} {ls as rest : List Value} {h h1 h2 : HP} {o1 o2 : AO} {xt : XT} (hok : CallOK l m pc c0 m' n) (hy : plainFor (miT m').1 = true) (hL : (miT m').2.2.1 ≤ 45) (hX : XOK (miT m).1.cls xt (miT m).2.2.2.2)
    (hle : (lspr as).length ≤ (miT m').2.2.1) (hn : as.length = n) (hk8 : stk 8 rest = true) (hc0 : c0 ≠ 0 → ∃ (a : Nat) (as' : List Value), as = .ref a :: as' ∧ hcls h a = c0) (hm : SM l (miT m') d 0 (lpad (miT m').2.2.1 (lspr as)) [] h o1 h1)
    (hk : (∀ v, o1 = .inl v → SM l (miT m) (d + 1) (pc + 3) ls (v.toList ++ rest) h1 o2 h2) ∧ ∀ r, o1 = .inr r → TJ l (miT m) (d + 1) pc xt ls h1 r o2 h2) :
    SM l (miT m) (d + 1) pc ls (as.reverse ++ rest) h o2 h2 := by
  have hle2 : hnc h1 ≤ hnc h2 ∧ hns h1 ≤ hns h2 ∧ hsz h1 ≤ hsz h2 := by
    cases o1 with
    | inl v => exact (hk.1 v rfl).1
    | inr r => exact TJ.le _ (hk.2 r rfl)
  have hm0 := hm
  obtain ⟨⟨m1, m2, m3⟩, hw⟩ := hm
  obtain ⟨n1, n2, n3⟩ := hle2
  refine ⟨⟨Nat.le_trans m1 n1, Nat.le_trans m2 n2, Nat.le_trans m3 n3⟩, fun hz => ?_⟩
  have hz1 : hsz h1 ≤ strB := Nat.le_trans n3 hz
  have hsp : ∀ L, vokL h (as.reverse ++ rest) → (L = as ∨ L = rest) → vokL h L := fun L hv e v hm => by
    rcases e with rfl | rfl
    · exact hv v (List.mem_append_left _ (List.mem_reverse.mpr hm))
    · exact hv v (List.mem_append_right _ hm)
  have hvo1 : HC h → vokL h as → HC h1 ∧ vokO h1 o1 := fun z a => (hw hz1).1 z (vokL_entry a _) (fun _ q => by cases q)
  refine ⟨fun z a b => ?_, ?_⟩
  · obtain ⟨q1, q2⟩ := hvo1 z (hsp _ b (Or.inl rfl))
    cases o1 with
    | inl v =>
      refine ((hk.1 v rfl).2 hz).1 q1 (vokL_up m3 a) ?_
      intro w hw
      rcases List.mem_append.mp hw with e | e
      · cases v with
        | none => cases e
        | some v =>
          have e : w ∈ [v] := e
          rw [List.mem_singleton.mp e]
          exact q2
      · exact vok_up m3 (hsp _ b (Or.inr rfl) w e)
    | inr r => exact TJ.vo hz q1 (vokL_up m3 a) q2 _ (hk.2 r rfl)
  intro p e s mm args below meth c G F loc H locs cells slots la hr hS hl v1 v2 hla
  have va := hsp _ v2 (Or.inl rfl)
  have vr := hsp _ v2 (Or.inr rfl)
  have hq := hvo1 hr.1 va
  have hMet := SM.met hm0 hz1 hy hle va F.kf F.hA hS hr
  have hrun := hok p e s mm args below meth c G F (RM (d + 1) (cells + (hnc h2 - hnc h)) (slots + (hns h2 - hns h))) _ loc h H locs cells slots _ _ la as rest _ _ _ hr (Nat.le_trans m3 hz1) hla.1 hn hk8 hc0 hMet rfl rfl
    (by show d + 10 + 1 ≤ d + 1 + 10; omega) (by show 8 + ((miT m').2.2.1 + 11) + (64 * d + 200) ≤ 64 * (d + 1) + 200; omega) (by show cells + (hnc h1 - hnc h) ≤ cells + (hnc h2 - hnc h) ∧ slots + (hns h1 - hns h) ≤ slots + (hns h2 - hns h); omega)
  intro T hT X
  rcases hrun T hT X with ⟨v, st₀, t, T', L, h0, X', hL, e1, e2, ⟨⟨vo, loc', ho, hl', hoc, hr1⟩, hF⟩, st⟩ | ⟨q, st₀, t, T', L, E, ce, h0, X', hL, e1, e2, ⟨⟨r, loc', ho, hl', hqq, hE, hr1⟩, hF⟩, hce, hcv, hcl, st⟩
  · obtain ⟨-, -, k3⟩ := vx_keep (A0 := gA G) (A1 := gA G) h0 e1 hS (fun _ _ z => z) (fun _ z => z) hL hF
    have hr1 : HR G loc' h1 T'.heap := by rw [e1]; exact hr1
    have hoc : v = vo.map (cv G loc') := by injection hoc
    subst ho
    have vv : vokL h1 (vo.toList ++ rest) := by
      intro w hw
      rcases List.mem_append.mp hw with e | e
      · cases vo with
        | none => cases e
        | some v =>
          have e : w ∈ [v] := e
          rw [List.mem_singleton.mp e]
          exact hq.2
      · exact vok_up m3 (vr w e)
    obtain ⟨t2, a1, b1⟩ := SM.after (e := e) (below := below) (cells := cells) (slots := slots) (hk.1 vo rfl) hz ⟨m1, m2, m3⟩ F hl' hr1 k3 hl v1 vv hla T' rfl X'
    refine ⟨t2, st t2 ?_, b1⟩
    rw [show (vo.toList ++ rest).map (cv G loc') = v.toList ++ rest.map (cv G loc) by
      rw [List.map_append, map_cv_eq hl' vr, hoc]
      cases vo <;> rfl] at a1
    exact a1
  · obtain ⟨-, -, k3⟩ := vx_keep (A0 := gA G) (A1 := gA G) h0 e1 hS (fun _ _ z => z) (fun _ z => z) hL hF
    have hr1 : HR G loc' h1 T'.heap := by rw [e1]; exact hr1
    subst ho
    subst hqq
    subst hE
    obtain ⟨t2, a1, b1⟩ := TJ.w (e := e) (below := below) (cells := cells) (slots := slots) (rest := rest.map (cv G loc)) hz ⟨m1, m2, m3⟩ F hl' hr1 k3 hl v1 hla hq.2 (by rw [e1]; exact hce) hcv hcl xt _ [] F.tab (fun _ z => by cases z) hX (hk.2 r rfl) T' rfl X'
    exact ⟨t2, st.trans a1, b1⟩
theorem call_step {l : Launch} {m pc c0 m' n d : Nat} {ls st : List Value} {h : HP} {xt : XT} {Q : Tt} {C' : Ct} {K' : Kt} {T' : Tt} (hok : CallOK l m pc c0 m' n) (hy : plainFor (miT m').1 = true) (hL : (miT m').2.2.1 ≤ 45) (hX : XOK (miT m).1.cls xt (miT m).2.2.2.2) (hpg : ∃ T, pg m' = some ((miT m').2.2.1, T))
    (hC : ∀ m' as h P, C' m' as h P → cX pg (X0 l) d m' as h P) (hK : ∀ pc ls st h, K' pc ls st h → X0 l d m pc ls st h Q) (hT : ∀ o h, T' o h → Q o h) (hst : stn n st = true) (hc0 : c0 ≠ 0 → ∃ (a : Nat) (as' : List Value), ltake n st [] = .ref a :: as' ∧ hcls h a = c0)
    (H : C' m' (ltake n st []) h (kpost K' T' pc (pc + 3) xt ls (ldrop n st))) : X0 l d m pc ls st h Q := by
  have hcx := hC _ _ _ _ H
  cases d with
  | zero => exact hcx.elim
  | succ d =>
    obtain ⟨T, hpg⟩ := hpg
    have hcx : (match pg m' with | some q => bif Nat.ble (lspr (ltake n st [])).length q.1 then X0 l d m' 0 (lpad q.1 (lspr (ltake n st []))) [] h (kpost K' T' pc (pc + 3) xt ls (ldrop n st)) else False | none => False) := hcx
    rw [hpg] at hcx
    cases hb : Nat.ble (lspr (ltake n st [])).length (miT m').2.2.1 with
    | false => simp only [hb, cond_false] at hcx
    | true =>
      simp only [hb, cond_true] at hcx
      obtain ⟨o1, h1, hm, hp⟩ := hcx
      obtain ⟨e1, e2, e3, e4, e5⟩ := stn_split n st [] hst
      have fin : ∀ (o2 : AO) (h2 : HP), ((∀ v, o1 = .inl v → SM l (miT m) (d + 1) (pc + 3) ls (v.toList ++ ldrop n st) h1 o2 h2) ∧ ∀ r, o1 = .inr r → TJ l (miT m) (d + 1) pc xt ls h1 r o2 h2) → SM l (miT m) (d + 1) pc ls st h o2 h2 := fun o2 h2 hk => by
        have := SM.call hok hy hL hX (Nat.le_of_ble_eq_true hb) (by rw [e2]; rfl) e3 hc0 hm hk
        rw [e1] at this
        exact this
      rcases o1 with v | r
      · have hp : K' (pc + 3) ls (v.toList ++ ldrop n st) h1 := by cases v <;> exact hp
        obtain ⟨o2, h2, hs, hq⟩ := hK _ _ _ _ hp
        exact ⟨o2, h2, fin o2 h2 ⟨(fun v' e => by cases e; exact hs), (fun r e => by cases e)⟩, hq⟩
      · obtain ⟨o2, h2, hq, hs⟩ := xgo_pick hK hT xt hp
        exact ⟨o2, h2, fin o2 h2 ⟨(fun v' e => by cases e), (fun r' e => by cases e; exact hs)⟩, hq⟩
/-- what the tables say of the called method -/
def MOK (m' : Nat) : Prop := plainFor (miT m').1 = true ∧ (miT m').2.2.1 ≤ 45 ∧ ∃ T, pg m' = some ((miT m').2.2.1, T)
section
variable {l : Launch} {m pc m' n : Nat} {xt : XT}
theorem ss_call (hok : CallOK l m pc 0 m' n) (hM : MOK m') (hX : XOK (miT m).1.cls xt (miT m).2.2.2.2) : SS l m pc (op_call m' n pc (pc + 3) xt) := by
  intro d ls st h Q C' K' T' hC hK hT H
  unfold op_call at H
  cases hst : stn n st with
  | false => rw [hst] at H; exact H.elim
  | true =>
    rw [hst] at H
    exact call_step hok hM.1 hM.2.1 hX hM.2.2 hC hK hT hst (fun z => absurd rfl z) H
theorem ss_fin {cs : List Nat} (hok : ∀ c ∈ cs, CallOK l m pc c m' n) (hM : MOK m') (hX : XOK (miT m).1.cls xt (miT m).2.2.2.2) : SS l m pc (op_fin m' cs n pc (pc + 3) xt) := by
  intro d ls st h Q C' K' T' hC hK hT H
  unfold op_fin at H
  split at H
  · rename_i a as ea
    cases hst : stn n st with
    | false => rw [hst] at H; exact H.elim
    | true =>
      rw [hst] at H
      simp only [cond_true] at H
      refine call_step (hok _ (List.contains_iff_mem.mp H.1)) hM.1 hM.2.1 hX hM.2.2 hC hK hT hst (fun _ => ⟨a, as, ea, rfl⟩) ?_
      rw [ea]
      exact H.2
  · exact H.elim
theorem vgo_pick {C' : Ct} {P : Tt} {as : List Value} {h : HP} {c : Nat} : ∀ (vt : List (Nat × Nat)), vgo C' P as h c vt → ∃ q ∈ vt, c = q.1 ∧ C' q.2 as h P
  | [], H => H.elim
  | [q], H => ⟨q, List.mem_cons_self, H⟩
  | q :: q2 :: t, H => by
    by_cases e : c = q.1
    · exact ⟨q, List.mem_cons_self, e, H.1 e⟩
    · obtain ⟨z, h1, h2⟩ := vgo_pick (q2 :: t) (H.2 e)
      exact ⟨z, List.mem_cons_of_mem _ h1, h2⟩
theorem ss_virt {vt : List (Nat × Nat)} (hok : ∀ q ∈ vt, CallOK l m pc q.1 q.2 n ∧ MOK q.2) (hX : XOK (miT m).1.cls xt (miT m).2.2.2.2) : SS l m pc (op_virt vt n pc (pc + 3) xt) := by
  intro d ls st h Q C' K' T' hC hK hT H
  unfold op_virt at H
  split at H
  · rename_i a as ea
    cases hst : stn n st with
    | false => rw [hst] at H; exact H.elim
    | true =>
      rw [hst] at H
      simp only [cond_true] at H
      obtain ⟨q, hq, hc, H⟩ := vgo_pick vt H
      obtain ⟨ok, hM⟩ := hok q hq
      refine call_step ok hM.1 hM.2.1 hX hM.2.2 hC hK hT hst (fun _ => ⟨a, as, ea, hc⟩) ?_
      rw [ea]
      exact H
  · exact H.elim
end
