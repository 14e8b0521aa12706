/-! SOUND 10: a new cell -/
set_option maxRecDepth 100000
theorem vx_MQ.imp {below : List Frame} {Qc Qc' : Array Value → State → Outcome → State → Prop} {X X' : String → Addr → State → State → Prop} {a : Array Value} {s : State} {mc ms : Nat} {free : Addr → Prop} (h1 : ∀ o t, Qc a s o t → Qc' a s o t) (h2 : ∀ E q t, X E q s t → X' E q s t) (t : State)
    (h : vx_MQ below Qc X a s mc ms free t) : vx_MQ below Qc' X' a s mc ms free t := by
  obtain ⟨o, b1, b2, b3⟩ := h
  refine ⟨o, b1, b2, ?_⟩
  rcases b3 with ⟨b3, b4⟩ | ⟨q, b3, b4⟩
  · exact Or.inl ⟨h1 _ _ b3, b4⟩
  · refine Or.inr ⟨q, b3, ?_⟩
    unfold vx_T at b4 ⊢
    obtain ⟨E, ce, L, b5, b6⟩ := b4
    exact ⟨E, ce, L, h2 _ _ _ b5, b6⟩
theorem W.imp {p : Program} {l : Launch} {e : Env} {R : Room} {s : State} {m : MethodId} {args : Array Value} {below : List Frame} {meth : Method} {c : Code} {H : Heap} {locs : List Loc} {cells slots : Nat} {Q Q' : State → Prop} {g : JFrame} (h : ∀ t, Q t → Q' t) (k : W p l e R s m args below meth c H locs cells slots Q g) : W p l e R s m args below meth c H locs cells slots Q' g := by
  intro T hT X
  obtain ⟨t, a, b⟩ := k T hT X
  exact ⟨t, a, h t b⟩
/-- two placings that agree on what lives -/
theorem cr_eq {G : GX} {loc loc' : Nat → Nat} {h : HP} (hl : ∀ a, a < hsz h → loc' a = loc a) {a : Nat} (ha : rok h a) : cr G loc' a = cr G loc a := by
  unfold cr
  by_cases h0 : a = 0
  · simp [h0]
  · by_cases h1 : strB ≤ a
    · simp [h0, h1]
    · rcases ha with z | z | z
      · exact absurd z h0
      · simp [h0, h1, hl a z]
      · exact absurd z.1 h1
theorem ro_eq {G : GX} {loc loc' : Nat → Nat} {h : HP} (hl : ∀ a, a < hsz h → loc' a = loc a) {a : Nat} (ha : rok h a) : ro G loc' a = ro G loc a := by
  unfold ro
  by_cases h0 : a = 0
  · simp [h0]
  · by_cases h1 : strB ≤ a
    · simp [h0, h1]
    · rcases ha with z | z | z
      · exact absurd z h0
      · simp [h0, h1, hl a z]
      · exact absurd z.1 h1
theorem cv_eq {G : GX} {loc loc' : Nat → Nat} {h : HP} (hl : ∀ a, a < hsz h → loc' a = loc a) {v : Value} (hv : vok h v) : cv G loc' v = cv G loc v := by
  cases v <;> first | rfl | exact cr_eq hl hv
theorem map_cv_eq {G : GX} {loc loc' : Nat → Nat} {h : HP} (hl : ∀ a, a < hsz h → loc' a = loc a) {st : List Value} (hv : vokL h st) : st.map (cv G loc') = st.map (cv G loc) := List.map_congr_left fun v hm => cv_eq hl (hv v hm)
theorem prs_eq {G : GX} {loc loc' : Nat → Nat} {h : HP} (hl : ∀ a, a < hsz h → loc' a = loc a) : ∀ (k : Nat) (ls : List Value), vokL h ls → prs G loc' k ls = prs G loc k ls
  | _, [], _ => rfl
  | k, v :: t, hv => by
    have h1 := prs_eq (G := G) hl (k + 1) t (vokL_t hv)
    have h2 := cv_eq (G := G) hl (vokL_h hv)
    cases v <;> simp only [prs] <;> first | rw [h1, h2] | rw [h1]
theorem rok_new {h : HP} {c n k a : Nat} (ha : rok h a) : rok (hnew h c n k) a := by
  rcases ha with z | z | z
  · exact Or.inl z
  · exact Or.inr (Or.inl (Nat.lt_succ_of_lt z))
  · exact Or.inr (Or.inr z)
theorem vok_new {h : HP} {c n k : Nat} {v : Value} (hv : vok h v) : vok (hnew h c n k) v := by
  cases v <;> first | exact hv | exact rok_new hv
theorem up1_eq {α : Type} {f : Nat → α} {a : Nat} {v : α} : up1 f a v a = v := if_pos rfl
theorem up1_ne {α : Type} {f : Nat → α} {a b : Nat} {v : α} (e : b ≠ a) : up1 f a v b = f b := if_neg e
theorem HC.new {h : HP} {c n k : Nat} (hc : HC h) : HC (hnew h c n k) := by
  obtain ⟨q1, q2, q3, q4⟩ := hc
  refine ⟨fun f a => ?_, fun a i => ?_, fun a ha => ?_, Nat.succ_pos _⟩
  · show rok _ (up1 (fR h f) (hsz h) 0 a)
    by_cases e : a = hsz h
    · rw [e, up1_eq]; exact Or.inl rfl
    · rw [up1_ne e]; exact rok_new (q1 f a)
  · show rok _ (up1 (aR h) (hsz h) (fun _ => 0) a i)
    by_cases e : a = hsz h
    · rw [e, up1_eq]; exact Or.inl rfl
    · rw [up1_ne e]; exact rok_new (q2 a i)
  · have ha : up1 (hcls h) (hsz h) c a ≠ 0 := ha
    show 0 < a ∧ a < hsz h + 1
    by_cases e : a = hsz h
    · rw [e]; exact ⟨q4, Nat.lt_succ_self _⟩
    · rw [up1_ne e] at ha
      exact ⟨(q3 a ha).1, Nat.lt_succ_of_lt (q3 a ha).2⟩
theorem EE_new {G : GX} {loc loc' : Nat → Nat} {h : HP} {c n k b : Nat} (hc : HC h) (hl : ∀ a, a < hsz h → loc' a = loc a) (hb : b < hsz h) : EE G loc' (hnew h c n k) b = EE G loc h b := by
  have e : b ≠ hsz h := Nat.ne_of_lt hb
  have e1 : hcls (hnew h c n k) b = hcls h b := up1_ne e
  have e2 : hlen (hnew h c n k) b = hlen h b := up1_ne e
  have e3 : aI (hnew h c n k) b = aI h b := up1_ne e
  have e4 : aJ (hnew h c n k) b = aJ h b := up1_ne e
  have e5 : aR (hnew h c n k) b = aR h b := up1_ne e
  have e6 : (fun i => ro G loc' (aR h b i)) = (fun i => ro G loc (aR h b i)) := funext fun i => ro_eq hl (hc.2.1 b i)
  have e7 : fv G loc' (hnew h c n k) b = fv G loc h b := by
    funext q
    unfold fv
    rw [show fI (hnew h c n k) q.2 b = fI h q.2 b from up1_ne e, show fJ (hnew h c n k) q.2 b = fJ h q.2 b from up1_ne e, show fR (hnew h c n k) q.2 b = fR h q.2 b from up1_ne e, cr_eq hl (hc.1 q.2 b)]
  unfold EE
  rw [e1, e2, e3, e4, e5, e6, e7]
/-- a cell more -/
theorem HR.new {G : GX} {loc : Nat → Nat} {h : HP} {H H1 : Heap} {c n k q : Nat} {E : va_E} (hr : HR G loc h H) (h7 : c ≠ 7) (hbA : ¬ gA G (gb G)) (hE : EE G (up1 loc (hsz h) q) (hnew h c n k) (hsz h) = E) (hP : va_P (gD G) clT (wsA G loc h ++ [(q, E)]) H1) (hD : va_D (gA G) (wsA G loc h ++ [(q, E)])) : HR G (up1 loc (hsz h) q) (hnew h c n k) H1 := by
  have hl : ∀ a, a < hsz h → up1 loc (hsz h) q a = loc a := fun a ha => up1_ne (Nat.ne_of_lt ha)
  have hq : (wsA G loc h ++ [(q, E)])[(wsA G loc h).length]? = some (q, E) := by rw [List.getElem?_append_right (Nat.le_refl _), Nat.sub_self]; rfl
  have hne : ∀ b, 0 < b → b < hsz h → loc b ≠ q := by
    intro b b0 b1 z
    by_cases b7 : hcls h b = 7
    · have := (hr.2.2.2 b b0 b1 b7).1
      exact hbA (by rw [← this, z]; exact hD.2 _ _ hq)
    · obtain ⟨j, hj, hj2⟩ := wsA_at (G := G) (loc := loc) (mem_lvc.mpr ⟨b1, b0, b7⟩)
      have hjl := (List.getElem?_eq_some_iff.mp hj2).1
      have := hD.1 j _ _ _ (by rw [List.getElem?_append_left hjl]; exact hj2) hq z
      omega
  refine ⟨hr.1.new, fun b b0 b1 b7 => ?_, fun b c' b0 b1 c0 c1 e => ?_, fun b b0 b1 b7 => ?_⟩
  · by_cases e : b = hsz h
    · subst e
      rw [up1_eq, hE]
      exact ⟨hP _ _ hq, hD.2 _ _ hq⟩
    · have b1 : b < hsz h := by have : b < hsz h + 1 := b1; omega
      have b7 : hcls h b ≠ 7 := by rw [show hcls (hnew h c n k) b = hcls h b from up1_ne e] at b7; exact b7
      rw [EE_new hr.1 hl b1, up1_ne e]
      obtain ⟨j, hj, hj2⟩ := wsA_at (G := G) (loc := loc) (mem_lvc.mpr ⟨b1, b0, b7⟩)
      have hjl := (List.getElem?_eq_some_iff.mp hj2).1
      exact ⟨hP j _ (by rw [List.getElem?_append_left hjl]; exact hj2), (hr.2.1 b b0 b1 b7).2⟩
  · have b1 : b < hsz h + 1 := b1
    have c1 : c' < hsz h + 1 := c1
    by_cases e1 : b = hsz h
    · by_cases e2 : c' = hsz h
      · omega
      · rw [e1, up1_eq, up1_ne e2] at e
        exact absurd e.symm (hne c' c0 (by omega))
    · by_cases e2 : c' = hsz h
      · rw [e2, up1_eq, up1_ne e1] at e
        exact absurd e (hne b b0 (by omega))
      · rw [up1_ne e1, up1_ne e2] at e
        exact hr.2.2.1 b c' b0 (by omega) c0 (by omega) e
  · have b1 : b < hsz h + 1 := b1
    by_cases e : b = hsz h
    · rw [e, show hcls (hnew h c n k) (hsz h) = c from up1_eq] at b7
      exact absurd b7 h7
    · rw [show hcls (hnew h c n k) b = hcls h b from up1_ne e] at b7
      obtain ⟨q1, q2, q3⟩ := hr.2.2.2 b b0 (by omega) b7
      rw [up1_ne e, show hlen (hnew h c n k) b = hlen h b from up1_ne e, show aI (hnew h c n k) b = aI h b from up1_ne e]
      exact ⟨q1, q2, q3⟩
/-- a step that makes one cell -/
theorem SM.new {l : Launch} {k : MI} {d pc nx c n cost : Nat} {ls st st' : List Value} {h h' : HP} {o : AO} (H0 : SM l k d nx ls (.ref (hsz h) :: st') (hnew h c n cost) o h') (h7 : c ≠ 7) (hst : vokL h st → vokL h st')
    (row : ∀ (p : Program) (e : Env) (s : State) (m : MethodId) (args : Array Value) (below : List Frame) (meth : Method) (c0 : Code) (G : GX), FX k p s m args meth c0 G →
      ∀ (R : Room) (Q : State → Prop) (loc : Nat → Nat) (H : Heap) (locs : List Loc) (cells slots : Nat) (la : Array Slot), HR G loc h H → va_S (gA G) s.heap H locs → vokL h st → hsz h + 1 ≤ strB → cells + 1 ≤ R.cells → slots + cost ≤ R.slots →
      (∀ (q : Nat) (H1 : Heap) (E : va_E), E = EE G (up1 loc (hsz h) q) (hnew h c n cost) (hsz h) → va_P (gD G) clT (wsA G loc h ++ [(q, E)]) H1 → va_D (gA G) (wsA G loc h ++ [(q, E)]) → va_S (gA G) s.heap H1 locs → W p l e R s m args below meth c0 H1 locs (cells + 1) (slots + cost) Q (F0 m nx la (.ref q :: st'.map (cv G loc)))) → W p l e R s m args below meth c0 H locs cells slots Q (F0 m pc la (st.map (cv G loc)))) :
    SM l k d pc ls st h o h' := by
  obtain ⟨⟨m1, m2, m3⟩, hw⟩ := H0
  have m1 : hnc h + 1 ≤ hnc h' := m1
  have m2 : hns h + cost ≤ hns h' := m2
  have m3 : hsz h + 1 ≤ hsz h' := m3
  have hvl : ∀ L, vokL h L → vokL (hnew h c n cost) L := fun L hL v hv => vok_new (hL v hv)
  have hv1 : vok (hnew h c n cost) (.ref (hsz h)) := Or.inr (Or.inl (Nat.lt_succ_self _))
  refine ⟨⟨by omega, by omega, by omega⟩, fun hz => ?_⟩
  obtain ⟨hvo, hw⟩ := hw hz
  refine ⟨fun z a b => hvo z.new (hvl _ a) (vokL_c hv1 (hvl _ (hst b))), ?_⟩
  intro p e s m args below meth c0 G F loc H locs cells slots la hr hS hl v1 v2 hla
  refine row p e s m args below meth c0 G F _ _ loc H locs cells slots la hr hS v2 (Nat.le_trans m3 hz) (by show cells + 1 ≤ cells + (hnc h' - hnc h); omega) (by show slots + cost ≤ slots + (hns h' - hns h); omega) ?_
  intro q H1 E hE hP hD hS1
  have hbA : ¬ gA G (gb G) := F.kf.2.2.2.2.2.2.2.2.1
  have hr1 := hr.new h7 hbA hE.symm hP hD
  have hlq : ∀ a, a < hsz h → up1 loc (hsz h) q a = loc a := fun a ha => up1_ne (Nat.ne_of_lt ha)
  have := hw p e s m args below meth c0 G F _ H1 locs (cells + 1) (slots + cost) la hr1 hS1 hl (hvl _ v1) (vokL_c hv1 (hvl _ (hst v2))) (by rw [prs_eq hlq 0 ls v1]; exact hla)
  rw [show hnc (hnew h c n cost) = hnc h + 1 from rfl, show hns (hnew h c n cost) = hns h + cost from rfl, show hsz (hnew h c n cost) = hsz h + 1 from rfl, show cells + 1 + (hnc h' - (hnc h + 1)) = cells + (hnc h' - hnc h) by omega, show slots + cost + (hns h' - (hns h + cost)) = slots + (hns h' - hns h) by omega] at this
  rw [List.map_cons, map_cv_eq hlq (hst v2), show cv G (up1 loc (hsz h) q) (.ref (hsz h)) = .ref q by
    show cr G _ _ = _
    rw [cr_loc hr.1.2.2.2 (Nat.lt_succ_self _) (Nat.le_trans m3 hz), up1_eq]] at this
  refine W.imp (vx_MQ.imp ?_ ?_) this
  · rintro oc t ⟨⟨v, loc', a1, a2, a3⟩, a4⟩
    exact ⟨⟨v, loc', a1, fun a ha => (a2 a (Nat.lt_succ_of_lt ha)).trans (hlq a ha), a3⟩, a4⟩
  · rintro EN qa t ⟨⟨r, loc', a1, a2, a3⟩, a4⟩
    exact ⟨⟨r, loc', a1, fun a ha => (a2 a (Nat.lt_succ_of_lt ha)).trans (hlq a ha), a3⟩, a4⟩
