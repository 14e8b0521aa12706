/-! SOUND 6: the heap as a list of cells; fields written -/
set_option maxRecDepth 100000
/-- the cells that live -/
def lvc (h : HP) : List Nat := (List.range (hsz h)).filter (fun a => decide (0 < a ∧ hcls h a ≠ 7))
theorem mem_lvc {h : HP} {a : Nat} : a ∈ lvc h ↔ a < hsz h ∧ 0 < a ∧ hcls h a ≠ 7 := by
  simp [lvc]
theorem lvc_nd (h : HP) : (lvc h).Nodup := List.nodup_range.filter _
def wsA (G : GX) (loc : Nat → Nat) (h : HP) : va_W := (lvc h).map (fun a => (loc a, EE G loc h a))
theorem wsA_get {G : GX} {loc : Nat → Nat} {h : HP} {k : Nat} {q : Nat × va_E} (e : (wsA G loc h)[k]? = some q) : ∃ a, (lvc h)[k]? = some a ∧ q = (loc a, EE G loc h a) ∧ a ∈ lvc h := by
  rw [wsA, List.getElem?_map] at e
  cases ha : (lvc h)[k]? with
  | none => rw [ha] at e; cases e
  | some a =>
    rw [ha] at e
    exact ⟨a, rfl, (Option.some.inj e).symm, List.mem_of_getElem? ha⟩
theorem wsA_at {G : GX} {loc : Nat → Nat} {h : HP} {a : Nat} (ha : a ∈ lvc h) : ∃ k : Nat, (lvc h)[k]? = some a ∧ (wsA G loc h)[k]? = some (loc a, EE G loc h a) := by
  obtain ⟨k, hk⟩ := List.getElem?_of_mem ha
  exact ⟨k, hk, by rw [wsA, List.getElem?_map, hk]; rfl⟩
theorem lvc_inj {h : HP} {i j a : Nat} (hi : (lvc h)[i]? = some a) (hj : (lvc h)[j]? = some a) : i = j := by
  have h1 := (List.getElem?_eq_some_iff.mp hi)
  have h2 := (List.getElem?_eq_some_iff.mp hj)
  obtain ⟨l1, e1⟩ := h1
  obtain ⟨l2, e2⟩ := h2
  have hp := List.pairwise_iff_getElem.mp (lvc_nd h)
  rcases Nat.lt_trichotomy i j with hh | hh | hh
  · exact absurd (e1.trans e2.symm) (hp i j l1 l2 hh)
  · exact hh
  · exact absurd (e2.trans e1.symm) (hp j i l2 l1 hh)
theorem HR.P {G : GX} {loc : Nat → Nat} {h : HP} {H : Heap} (hr : HR G loc h H) : va_P (gD G) clT (wsA G loc h) H := by
  intro k q hq
  obtain ⟨a, -, rfl, hm⟩ := wsA_get hq
  obtain ⟨h1, h2, h3⟩ := mem_lvc.mp hm
  exact (hr.2.1 a h2 h1 h3).1
theorem HR.D {G : GX} {loc : Nat → Nat} {h : HP} {H : Heap} (hr : HR G loc h H) : va_D (gA G) (wsA G loc h) := by
  refine ⟨fun i j p q hi hj e => ?_, fun k q hq => ?_⟩
  · obtain ⟨a, ha, rfl, hma⟩ := wsA_get hi
    obtain ⟨b, hb, rfl, hmb⟩ := wsA_get hj
    obtain ⟨a1, a2, -⟩ := mem_lvc.mp hma
    obtain ⟨b1, b2, -⟩ := mem_lvc.mp hmb
    have := hr.2.2.1 a b a2 a1 b2 b1 e
    subst this
    exact lvc_inj ha hb
  · obtain ⟨a, -, rfl, hm⟩ := wsA_get hq
    obtain ⟨h1, h2, h3⟩ := mem_lvc.mp hm
    exact (hr.2.1 a h2 h1 h3).2
/-- one cell has changed -/
theorem HR.set {G : GX} {loc : Nat → Nat} {h h1 : HP} {H H1 : Heap} (hr : HR G loc h H) {a k : Nat} (hk : (lvc h)[k]? = some a) (hcl : hcls h1 = hcls h) (hz : hsz h1 = hsz h) (hc : HC h1) (hb : ∀ b, b ≠ a → EE G loc h1 b = EE G loc h b)
    (h7 : ∀ b, hcls h b = 7 → hlen h1 b = hlen h b ∧ aI h1 b = aI h b) (hP : va_P (gD G) clT ((wsA G loc h).set k (loc a, EE G loc h1 a)) H1) : HR G loc h1 H1 := by
  refine ⟨hc, fun b b0 b1 b7 => ?_, fun b c b0 b1 c0 c1 e => ?_, fun b b0 b1 b7 => ?_⟩
  · rw [hz] at b1
    rw [hcl] at b7
    obtain ⟨j, hj, hj2⟩ := wsA_at (G := G) (loc := loc) (mem_lvc.mpr ⟨b1, b0, b7⟩)
    refine ⟨?_, (hr.2.1 b b0 b1 b7).2⟩
    by_cases e : b = a
    · subst e
      have : j = k := lvc_inj hj hk
      subst this
      have hl := (List.getElem?_eq_some_iff.mp hj2).1
      exact hP j _ (List.getElem?_set_self hl)
    · have hjk : j ≠ k := fun z => by
        subst z
        rw [hj] at hk
        exact e (Option.some.inj hk)
      have := hP j (loc b, EE G loc h b) (by rw [List.getElem?_set_ne (Ne.symm hjk)]; exact hj2)
      rw [hb b e]
      exact this
  · rw [hz] at b1 c1
    exact hr.2.2.1 b c b0 b1 c0 c1 e
  · rw [hz] at b1
    rw [hcl] at b7
    obtain ⟨q1, q2, q3⟩ := hr.2.2.2 b b0 b1 b7
    obtain ⟨r1, r2⟩ := h7 b b7
    exact ⟨q1, r1.trans q2, r2.trans q3⟩
/-- a step that changes one cell -/
theorem SM.put {l : Launch} {k : MI} {d pc nx : Nat} {ls st st' : List Value} {h h1 h' : HP} {o : AO} (H0 : SM l k d nx ls st' h1 o h') (hn : hnc h1 = hnc h) (hs : hns h1 = hns h) (hz1 : hsz h1 = hsz h)
    (hv : HC h → vokL h st → vokL h st' ∧ HC h1)
    (row : ∀ (p : Program) (e : Env) (s : State) (m : MethodId) (args : Array Value) (below : List Frame) (meth : Method) (c : Code) (G : GX), FX k p s m args meth c G →
      ∀ (R : Room) (Q : State → Prop) (loc : Nat → Nat) (H : Heap) (locs : List Loc) (cells slots : Nat) (la : Array Slot), HR G loc h H → va_S (gA G) s.heap H locs → vokL h st → hsz h ≤ strB →
      (∀ (H1 : Heap) (locs1 : List Loc), HR G loc h1 H1 → va_S (gA G) s.heap H1 locs1 → W p l e R s m args below meth c H1 locs1 cells slots Q (F0 m nx la (st'.map (cv G loc)))) → W p l e R s m args below meth c H locs cells slots Q (F0 m pc la (st.map (cv G loc)))) :
    SM l k d pc ls st h o h' := by
  obtain ⟨hm, hw⟩ := H0
  rw [hn, hs, hz1] at hm
  have hvv : ∀ L, vokL h L → vokL h1 L := fun L hL v hv => by
    have := hL v hv
    cases v <;> first | exact this | (simp only [vok, rok, hz1] at this ⊢; exact this)
  refine ⟨hm, fun hz => ?_⟩
  obtain ⟨hvo, hw⟩ := hw hz
  refine ⟨fun z a b => hvo (hv z b).2 (hvv _ a) (hvv _ (hv z b).1), ?_⟩
  intro p e s m args below meth c G F loc H locs cells slots la hr hS hl v1 v2 hla
  refine row p e s m args below meth c G F _ _ loc H locs cells slots la hr hS v2 (Nat.le_trans hm.2.2 hz) (fun H1 locs1 hr1 hS1 => ?_)
  have := hw p e s m args below meth c G F loc H1 locs1 cells slots la hr1 hS1 hl (hvv _ v1) (hvv _ (hv hr.1 v2).1) hla
  rw [hn, hs, hz1] at this
  exact this
