/-! SOUND 9: arrays written, their lengths -/
set_option maxRecDepth 100000
/-- h1 is h but for the places of the array a -/
def OnlyA (h h1 : HP) (a : Nat) : Prop := hcls h1 = hcls h ∧ hlen h1 = hlen h ∧ fI h1 = fI h ∧ fJ h1 = fJ h ∧ fR h1 = fR h ∧ hsz h1 = hsz h ∧ hnc h1 = hnc h ∧ hns h1 = hns h ∧
  ∀ b, b ≠ a → aI h1 b = aI h b ∧ aJ h1 b = aJ h b ∧ aR h1 b = aR h b
theorem up2_ne {α : Type} {f : Nat → Nat → α} {a i b : Nat} {v : α} (e : b ≠ a) : up2 f a i v b = f b := by
  unfold up2 up1
  simp [e]
theorem up2_eq {α : Type} {f : Nat → Nat → α} {a i : Nat} {v : α} : up2 f a i v a = up1 (f a) i v := by
  show (if a = a then _ else _) = _
  rw [if_pos rfl]
theorem OnlyA.tI (h : HP) (a i : Nat) (v : Int32) : OnlyA h (tI h a i v) a := ⟨rfl, rfl, rfl, rfl, rfl, rfl, rfl, rfl, fun _ e => ⟨up2_ne e, rfl, rfl⟩⟩
theorem OnlyA.tJ (h : HP) (a i : Nat) (v : Int64) : OnlyA h (tJ h a i v) a := ⟨rfl, rfl, rfl, rfl, rfl, rfl, rfl, rfl, fun _ e => ⟨rfl, up2_ne e, rfl⟩⟩
theorem OnlyA.tR (h : HP) (a i : Nat) (v : Nat) : OnlyA h (tR h a i v) a := ⟨rfl, rfl, rfl, rfl, rfl, rfl, rfl, rfl, fun _ e => ⟨rfl, rfl, up2_ne e⟩⟩
theorem OnlyA.eeq {h h1 : HP} {a : Nat} (e : OnlyA h h1 a) {G : GX} {loc : Nat → Nat} {b : Nat} (hb : b ≠ a) : EE G loc h1 b = EE G loc h b := by
  obtain ⟨e1, e2, e3, e4, e5, -, -, -, e9⟩ := e
  obtain ⟨q1, q2, q3⟩ := e9 b hb
  have hf : fv G loc h1 b = fv G loc h b := by
    funext q
    unfold fv
    rw [e3, e4, e5]
  unfold EE
  rw [e1, e2, q1, q2, q3, hf]
section
variable {l : Launch} {m pc : Nat} {cc : ByteArray}
/-- an element written -/
theorem ss_ast0 {nx : Nat} {g : SF}
    (hg : ∀ C' K' T' ls st h, g C' K' T' ls st h → ∃ (a : Nat) (i : Int32) (r : List Value) (x : Value) (h1 : HP), st = x :: .int i :: .ref a :: r ∧ K' nx ls r h1 ∧ hcls h a ≠ 0 ∧ hcls h a ≠ 7 ∧ OnlyA h h1 a ∧ (HC h → vok h x → ∀ j, rok h (aR h1 a j)) ∧
      ∀ (p : Program) (e : Env) (s : State) (mm : MethodId) (args : Array Value) (below : List Frame) (meth : Method) (c : Code) (G : GX), FX (miT m) p s mm args meth c G → ∀ (R : Room) (Q : State → Prop) (loc : Nat → Nat) (H : Heap) (locs : List Loc) (cells slots : Nat) (la : Array Slot) (rr : List Value) (j : Nat), HR G loc h H → va_S (gA G) s.heap H locs → hsz h ≤ strB →
        (wsA G loc h)[j]? = some (loc a, EE G loc h a) →
        (∀ (H1 : Heap) (locs1 : List Loc), va_P (gD G) clT ((wsA G loc h).set j (loc a, EE G loc h1 a)) H1 → va_S (gA G) s.heap H1 locs1 → W p l e R s mm args below meth c H1 locs1 cells slots Q (F0 mm nx la rr)) → W p l e R s mm args below meth c H locs cells slots Q (F0 mm pc la (cv G loc x :: .int i :: .ref (loc a) :: rr))) : SS l m pc g := by
  intro d ls st h Q C' K' T' hC hK hT H
  obtain ⟨a, i, r, x, h1, rfl, hk', h0, h7, hO, hrf, hw⟩ := hg _ _ _ _ _ _ H
  obtain ⟨o, h', hs, hq⟩ := hK _ _ _ _ hk'
  have hHC : HC h → vok h x → HC h1 := by
    rintro ⟨q1, q2, q3, q4⟩ hv
    obtain ⟨e1, e2, e3, e4, e5, e6, e7, e8, e9⟩ := hO
    have er : ∀ x, rok h x → rok h1 x := fun x hx => by unfold rok at hx ⊢; rw [e6]; exact hx
    refine ⟨fun g b => by rw [e5]; exact er _ (q1 g b), fun b i => ?_, fun b hb => by rw [e1] at hb; rw [e6]; exact q3 b hb, by rw [e6]; exact q4⟩
    refine er _ ?_
    by_cases z : b = a
    · subst z; exact hrf ⟨q1, q2, q3, q4⟩ hv i
    · rw [(e9 b z).2.2]; exact q2 b i
  refine ⟨o, h', SM.put hs hO.2.2.2.2.2.2.1 hO.2.2.2.2.2.2.2.1 hO.2.2.2.2.2.1 (fun z b => ⟨vokL_t (vokL_t (vokL_t b)), hHC z (vokL_h b)⟩) ?_, hq⟩
  intro p e s mm args below meth c0 G F R QQ loc HH locs cells slots la hr hS v2 hz kk
  obtain ⟨ha0, ha1⟩ := hr.1.2.2.1 a h0
  obtain ⟨j, hj, hj2⟩ := wsA_at (G := G) (loc := loc) (mem_lvc.mpr ⟨ha1, ha0, h7⟩)
  have e1 : cv G loc (.ref a) = .ref (loc a) := cr_loc ha0 ha1 hz
  simp only [List.map_cons, e1]
  refine hw p e s mm args below meth c0 G F R QQ loc HH locs cells slots la _ j hr hS hz hj2 fun H1 locs1 hP hS1 => ?_
  refine kk H1 locs1 (hr.set hj hO.1 hO.2.2.2.2.2.1 (hHC hr.1 (vokL_h v2)) (fun b hb => OnlyA.eeq hO hb) (fun b hb => ⟨by rw [hO.2.1], ?_⟩) hP) hS1
  exact (hO.2.2.2.2.2.2.2.2 b (fun z => h7 (by rw [← z]; exact hb))).1
theorem ss_iast (eb : (miT m).2.1 = cc) (hd : decode cc pc = .ok (.iastore, 1)) : SS l m pc (op_tI (pc + 1)) := by
  refine ss_ast0 (nx := pc + 1) fun C' K' T' ls st h H => ?_
  unfold op_tI at H
  split at H
  · refine ⟨_, _, _, _, _, rfl, H.2.2 _ rfl, by rw [H.1]; decide, by rw [H.1]; decide, OnlyA.tI _ _ _ _, fun z _ j => z.2.1 _ j, ?_⟩
    intro p e s mm args below meth c G F R Q loc HH locs cells slots la rr j hr hS hz hj kk
    rw [EE_1 H.1] at hj
    refine va_iast F.1 (F.2.1.trans eb) F.kf.1 hr.P hr.D hS j 0 hj rfl H.2.1.vp hd fun H1 locs1 hP _ hS1 => kk H1 locs1 ?_ hS1
    rw [EE_1 (show hcls (tI h _ _ _) _ = 1 from H.1)]
    rw [show aI (tI h _ _ _) _ = upd (aI h _) _ _ from up2_eq]
    exact hP
  · exact H.elim
theorem ss_bast (eb : (miT m).2.1 = cc) (hd : decode cc pc = .ok (.bastore, 1)) : SS l m pc (op_tB (pc + 1)) := by
  refine ss_ast0 (nx := pc + 1) fun C' K' T' ls st h H => ?_
  unfold op_tB at H
  split at H
  · refine ⟨_, _, _, _, _, rfl, H.2.2 _ rfl, by rw [H.1]; decide, by rw [H.1]; decide, OnlyA.tI _ _ _ _, fun z _ j => z.2.1 _ j, ?_⟩
    intro p e s mm args below meth c G F R Q loc HH locs cells slots la rr j hr hS hz hj kk
    rw [EE_2 H.1] at hj
    refine va_bast F.1 (F.2.1.trans eb) F.kf.1 hr.P hr.D hS j 1 hj rfl H.2.1.vp hd fun H1 locs1 hP _ hS1 => kk H1 locs1 ?_ hS1
    rw [EE_2 (show hcls (tI h _ _ _) _ = 2 from H.1)]
    rw [show aI (tI h _ _ _) _ = upd (aI h _) _ _ from up2_eq]
    exact hP
  · exact H.elim
theorem vp_nar_z {v : Int32} (h : v = 0 ∨ v = 1) : vp_nar .boolean v = v := by
  rcases h with rfl | rfl <;> rfl
theorem ss_zast (eb : (miT m).2.1 = cc) (hd : decode cc pc = .ok (.bastore, 1)) : SS l m pc (op_tZ (pc + 1)) := by
  refine ss_ast0 (nx := pc + 1) fun C' K' T' ls st h H => ?_
  unfold op_tZ at H
  split at H
  · refine ⟨_, _, _, _, _, rfl, H.2.2.2 _ rfl, by rw [H.1]; decide, by rw [H.1]; decide, OnlyA.tI _ _ _ _, fun z _ j => z.2.1 _ j, ?_⟩
    intro p e s mm args below meth c G F R Q loc HH locs cells slots la rr j hr hS hz hj kk
    rw [EE_3 H.1] at hj
    refine va_zast F.1 (F.2.1.trans eb) F.kf.1 hr.P hr.D hS j 2 hj rfl H.2.2.1.vp hd fun H1 locs1 hP _ hS1 => kk H1 locs1 ?_ hS1
    rw [vp_nar_z H.2.1] at hP
    rw [EE_3 (show hcls (tI h _ _ _) _ = 3 from H.1)]
    rw [show aI (tI h _ _ _) _ = upd (aI h _) _ _ from up2_eq]
    exact hP
  · exact H.elim
theorem ss_last (eb : (miT m).2.1 = cc) (hd : decode cc pc = .ok (.lastore, 1)) : SS l m pc (op_tJ (pc + 1)) := by
  refine ss_ast0 (nx := pc + 1) fun C' K' T' ls st h H => ?_
  unfold op_tJ at H
  split at H
  · refine ⟨_, _, _, _, _, rfl, H.2.2 _ rfl, by rw [H.1]; decide, by rw [H.1]; decide, OnlyA.tJ _ _ _ _, fun z _ j => z.2.1 _ j, ?_⟩
    intro p e s mm args below meth c G F R Q loc HH locs cells slots la rr j hr hS hz hj kk
    rw [EE_4 H.1] at hj
    refine va_last F.1 (F.2.1.trans eb) F.kf.1 hr.P hr.D hS j 3 hj rfl H.2.1.vp hd fun H1 locs1 hP _ hS1 => kk H1 locs1 ?_ hS1
    rw [EE_4 (show hcls (tJ h _ _ _) _ = 4 from H.1)]
    rw [show aJ (tJ h _ _ _) _ = vp_updL (aJ h _) _ _ from up2_eq]
    exact hP
  · exact H.elim
/-- a length -/
theorem ss_len0 {c nx : Nat} (h0 : c ≠ 0)
    (hw : ∀ (a : Nat) (h : HP), hcls h a = c → ∀ (p : Program) (e : Env) (s : State) (mm : MethodId) (args : Array Value) (below : List Frame) (meth : Method) (c : Code) (G : GX), FX (miT m) p s mm args meth c G → ∀ (R : Room) (Q : State → Prop) (loc : Nat → Nat) (H : Heap) (locs : List Loc) (cells slots : Nat) (la : Array Slot) (rr : List Value), HR G loc h H → va_S (gA G) s.heap H locs →
        W p l e R s mm args below meth c H locs cells slots Q (F0 mm nx la (.int (Int32.ofNat (hlen h a)) :: rr)) → W p l e R s mm args below meth c H locs cells slots Q (F0 mm pc la (.ref (loc a) :: rr))) : SS l m pc (op_len c nx) := by
  intro d ls st h Q C' K' T' hC hK hT H
  unfold op_len at H
  split at H
  · rename_i a r
    obtain ⟨o, h', hs, hq⟩ := hK _ _ _ _ H.2
    refine ⟨o, h', SM.pure hs (fun z => z) (fun z a b => ⟨a, vokL_c trivial (vokL_t b)⟩) ?_, hq⟩
    intro p e s mm args below meth c0 G F R QQ loc HH locs cells slots la hr hS hl v1 v2 hz hla kk
    obtain ⟨ha0, ha1⟩ := hr.1.2.2.1 a (by rw [H.1]; exact h0)
    have e1 : cv G loc (.ref a) = .ref (loc a) := cr_loc ha0 ha1 hz
    have kk := kk la hla
    simp only [List.map_cons, e1] at kk ⊢
    exact hw a h H.1 p e s mm args below meth c0 G F R QQ loc HH locs cells slots la _ hr hS kk
  · exact H.elim
theorem ss_len1 (eb : (miT m).2.1 = cc) (hd : decode cc pc = .ok (.arraylength, 1)) : SS l m pc (op_len 1 (pc + 1)) := by
  refine ss_len0 (by decide) ?_
  intro a h H p e s mm args below meth c G F R Q loc HH locs cells slots la rr hr hS kk; have hat := (hr.at H (by decide) (by decide)).1
  rw [EE_1 H] at hat
  exact va_alen F.1 (F.2.1.trans eb) F.kf.1 (va_one hat) 0 0 rfl rfl rfl hd kk
theorem ss_len2 (eb : (miT m).2.1 = cc) (hd : decode cc pc = .ok (.arraylength, 1)) : SS l m pc (op_len 2 (pc + 1)) := by
  refine ss_len0 (by decide) ?_
  intro a h H p e s mm args below meth c G F R Q loc HH locs cells slots la rr hr hS kk; have hat := (hr.at H (by decide) (by decide)).1
  rw [EE_2 H] at hat
  exact va_alen F.1 (F.2.1.trans eb) F.kf.1 (va_one hat) 0 1 rfl rfl rfl hd kk
theorem ss_len3 (eb : (miT m).2.1 = cc) (hd : decode cc pc = .ok (.arraylength, 1)) : SS l m pc (op_len 3 (pc + 1)) := by
  refine ss_len0 (by decide) ?_
  intro a h H p e s mm args below meth c G F R Q loc HH locs cells slots la rr hr hS kk; have hat := (hr.at H (by decide) (by decide)).1
  rw [EE_3 H] at hat
  exact va_alen F.1 (F.2.1.trans eb) F.kf.1 (va_one hat) 0 2 rfl rfl rfl hd kk
theorem ss_len4 (eb : (miT m).2.1 = cc) (hd : decode cc pc = .ok (.arraylength, 1)) : SS l m pc (op_len 4 (pc + 1)) := by
  refine ss_len0 (by decide) ?_
  intro a h H p e s mm args below meth c G F R Q loc HH locs cells slots la rr hr hS kk; have hat := (hr.at H (by decide) (by decide)).1
  rw [EE_4 H] at hat
  exact va_alen F.1 (F.2.1.trans eb) F.kf.1 (va_one hat) 0 3 rfl rfl rfl hd kk
theorem ss_len5 (eb : (miT m).2.1 = cc) (hd : decode cc pc = .ok (.arraylength, 1)) : SS l m pc (op_len 5 (pc + 1)) := by
  refine ss_len0 (by decide) ?_
  intro a h H p e s mm args below meth c G F R Q loc HH locs cells slots la rr hr hS kk; have hat := (hr.at H (by decide) (by decide)).1
  rw [EE_5 H] at hat
  exact va_alen F.1 (F.2.1.trans eb) F.kf.1 (va_one hat) 0 4 rfl rfl rfl hd kk
theorem ss_len6 (eb : (miT m).2.1 = cc) (hd : decode cc pc = .ok (.arraylength, 1)) : SS l m pc (op_len 6 (pc + 1)) := by
  refine ss_len0 (by decide) ?_
  intro a h H p e s mm args below meth c G F R Q loc HH locs cells slots la rr hr hS kk; have hat := (hr.at H (by decide) (by decide)).1
  rw [EE_6 H] at hat
  exact va_alen F.1 (F.2.1.trans eb) F.kf.1 (va_one hat) 0 5 rfl rfl rfl hd kk
theorem ss_len7 (eb : (miT m).2.1 = cc) (hd : decode cc pc = .ok (.arraylength, 1)) : SS l m pc (op_len 7 (pc + 1)) := by
  refine ss_len0 (by decide) ?_
  intro a h H p e s mm args below meth c G F R Q loc HH locs cells slots la rr hr hS kk
  obtain ⟨a0, a1⟩ := hr.1.2.2.1 a (by rw [H]; decide)
  obtain ⟨q1, q2, q3⟩ := hr.2.2.2 a a0 a1 H
  obtain ⟨-, -, -, -, -, -, k1, k2, k3, -⟩ := F.kf
  rw [q1]
  rw [q2] at kk
  exact va_slen F.1 (F.2.1.trans eb) k1 k2 k3 hS hd kk
end
