/-! SOUND 8: arrays read and written -/
set_option maxRecDepth 100000
theorem inb.vp {i : Int32} {n : Nat} (h : inb i n) : vp_in i n := fun z => by
  rcases z with z | z
  · exact h.1 z
  · exact absurd h.2 (Nat.not_lt.mpr z)
theorem va_one {D : va_G} {cl : List vw_C} {q : Nat × va_E} {H : Heap} (h : va_at D cl q H) : va_P D cl [q] H := by
  intro i z hz
  cases i with
  | zero => cases hz; exact h
  | succ i => simp at hz
theorem EE_1 {G : GX} {loc : Nat → Nat} {h : HP} {a : Nat} (e : hcls h a = 1) : EE G loc h a = .inl (gC G 1, hlen h a, .inl (aI h a)) := by unfold EE; rw [e]; rfl
theorem EE_2 {G : GX} {loc : Nat → Nat} {h : HP} {a : Nat} (e : hcls h a = 2) : EE G loc h a = .inl (gC G 2, hlen h a, .inl (aI h a)) := by unfold EE; rw [e]; rfl
theorem EE_3 {G : GX} {loc : Nat → Nat} {h : HP} {a : Nat} (e : hcls h a = 3) : EE G loc h a = .inl (gC G 3, hlen h a, .inl (aI h a)) := by unfold EE; rw [e]; rfl
theorem EE_4 {G : GX} {loc : Nat → Nat} {h : HP} {a : Nat} (e : hcls h a = 4) : EE G loc h a = .inl (gC G 4, hlen h a, .inr (.inl (aJ h a))) := by unfold EE; rw [e]; rfl
theorem EE_5 {G : GX} {loc : Nat → Nat} {h : HP} {a : Nat} (e : hcls h a = 5) : EE G loc h a = .inl (gC G 5, hlen h a, .inr (.inr (.inr (.inr (fun i => ro G loc (aR h a i)))))) := by unfold EE; rw [e]; rfl
theorem EE_6 {G : GX} {loc : Nat → Nat} {h : HP} {a : Nat} (e : hcls h a = 6) : EE G loc h a = .inl (gC G 6, hlen h a, .inr (.inr (.inr (.inr (fun i => ro G loc (aR h a i)))))) := by unfold EE; rw [e]; rfl
section
variable {l : Launch} {m pc : Nat} {cc : ByteArray}
/-- an element read -/
theorem ss_ald0 {nx : Nat} {g : SF} (eb : (miT m).2.1 = cc)
    (hg : ∀ C' K' T' ls st h, g C' K' T' ls st h → ∃ (a : Nat) (i : Int32) (r : List Value) (v : Value), st = .int i :: .ref a :: r ∧ K' nx ls (v :: r) h ∧ (HC h → vok h v) ∧ hcls h a ≠ 0 ∧ inb i (hlen h a) ∧
      ∀ (p : Program) (e : Env) (s : State) (mm : MethodId) (args : Array Value) (below : List Frame) (meth : Method) (c : Code) (G : GX), FX (miT m) p s mm args meth c G → ∀ (R : Room) (Q : State → Prop) (loc : Nat → Nat) (H : Heap) (locs : List Loc) (cells slots : Nat) (la : Array Slot) (rr : List Value), HR G loc h H → va_S (gA G) s.heap H locs →
        W p l e R s mm args below meth c H locs cells slots Q (F0 mm nx la (cv G loc v :: rr)) → W p l e R s mm args below meth c H locs cells slots Q (F0 mm pc la (.int i :: .ref (loc a) :: rr))) : SS l m pc g := by
  intro d ls st h Q C' K' T' hC hK hT H
  obtain ⟨a, i, r, v, rfl, hk', hv1, h0, hi, hw⟩ := hg _ _ _ _ _ _ H
  obtain ⟨o, h', hs, hq⟩ := hK _ _ _ _ hk'
  refine ⟨o, h', SM.pure hs (fun z => z) (fun z a b => ⟨a, vokL_c (hv1 z) (vokL_t (vokL_t b))⟩) ?_, hq⟩
  intro p e s mm args below meth c0 G F R QQ loc HH locs cells slots la hr hS hl v1 v2 hz hla kk
  obtain ⟨ha0, ha1⟩ := hr.1.2.2.1 a h0
  have e1 : cv G loc (.ref a) = .ref (loc a) := cr_loc ha0 ha1 hz
  have kk := kk la hla
  simp only [List.map_cons, e1] at kk ⊢
  exact hw p e s mm args below meth c0 G F R QQ loc HH locs cells slots la _ hr hS kk
theorem ss_iald (eb : (miT m).2.1 = cc) (hd : decode cc pc = .ok (.iaload, 1)) : SS l m pc (op_aI 1 (pc + 1)) := by
  refine ss_ald0 (nx := pc + 1) eb fun C' K' T' ls st h H => ?_
  unfold op_aI at H
  split at H
  · refine ⟨_, _, _, _, rfl, H.2.2, fun _ => trivial, by rw [H.1]; decide, H.2.1, ?_⟩
    intro p e s mm args below meth c G F R Q loc HH locs cells slots la rr hr hS kk
    have hat := (hr.at H.1 (by decide) (by decide)).1
    rw [EE_1 H.1] at hat
    exact va_iald F.1 (F.2.1.trans eb) F.kf.1 (va_one hat) 0 0 rfl rfl H.2.1.vp hd kk
  · exact H.elim
theorem ss_bald (eb : (miT m).2.1 = cc) (hd : decode cc pc = .ok (.baload, 1)) : SS l m pc (op_aI 2 (pc + 1)) := by
  refine ss_ald0 (nx := pc + 1) eb fun C' K' T' ls st h H => ?_
  unfold op_aI at H
  split at H
  · refine ⟨_, _, _, _, rfl, H.2.2, fun _ => trivial, by rw [H.1]; decide, H.2.1, ?_⟩
    intro p e s mm args below meth c G F R Q loc HH locs cells slots la rr hr hS kk
    have hat := (hr.at H.1 (by decide) (by decide)).1
    rw [EE_2 H.1] at hat
    exact va_bald F.1 (F.2.1.trans eb) F.kf.1 (va_one hat) 0 1 rfl rfl H.2.1.vp hd kk
  · exact H.elim
theorem ss_zald (eb : (miT m).2.1 = cc) (hd : decode cc pc = .ok (.baload, 1)) : SS l m pc (op_aI 3 (pc + 1)) := by
  refine ss_ald0 (nx := pc + 1) eb fun C' K' T' ls st h H => ?_
  unfold op_aI at H
  split at H
  · refine ⟨_, _, _, _, rfl, H.2.2, fun _ => trivial, by rw [H.1]; decide, H.2.1, ?_⟩
    intro p e s mm args below meth c G F R Q loc HH locs cells slots la rr hr hS kk
    have hat := (hr.at H.1 (by decide) (by decide)).1
    rw [EE_3 H.1] at hat
    exact va_zald F.1 (F.2.1.trans eb) F.kf.1 (va_one hat) 0 2 rfl rfl H.2.1.vp hd kk
  · exact H.elim
theorem ss_lald (eb : (miT m).2.1 = cc) (hd : decode cc pc = .ok (.laload, 1)) : SS l m pc (op_aJ (pc + 1)) := by
  refine ss_ald0 (nx := pc + 1) eb fun C' K' T' ls st h H => ?_
  unfold op_aJ at H
  split at H
  · refine ⟨_, _, _, _, rfl, H.2.2, fun _ => trivial, by rw [H.1]; decide, H.2.1, ?_⟩
    intro p e s mm args below meth c G F R Q loc HH locs cells slots la rr hr hS kk
    have hat := (hr.at H.1 (by decide) (by decide)).1
    rw [EE_4 H.1] at hat
    exact va_lald F.1 (F.2.1.trans eb) F.kf.1 (va_one hat) 0 3 rfl rfl H.2.1.vp hd kk
  · exact H.elim
theorem ss_aald6 (eb : (miT m).2.1 = cc) (hd : decode cc pc = .ok (.aaload, 1)) : SS l m pc (op_aR 6 (pc + 1)) := by
  refine ss_ald0 (nx := pc + 1) eb fun C' K' T' ls st h H => ?_
  unfold op_aR at H
  split at H
  · refine ⟨_, _, _, _, rfl, H.2.2, fun z => z.2.1 _ _, by rw [H.1]; decide, H.2.1, ?_⟩
    intro p e s mm args below meth c G F R Q loc HH locs cells slots la rr hr hS kk
    have hat := (hr.at H.1 (by decide) (by decide)).1
    rw [EE_6 H.1] at hat
    refine va_aldq F.1 (F.2.1.trans eb) F.kf.1 (va_one hat) 0 5 rfl rfl H.2.1.vp hd ?_
    rw [cr_ro]
    exact kk
  · exact H.elim
theorem ss_aald5 (eb : (miT m).2.1 = cc) (hd : decode cc pc = .ok (.aaload, 1)) : SS l m pc (op_aR 5 (pc + 1)) := by
  refine ss_ald0 (nx := pc + 1) eb fun C' K' T' ls st h H => ?_
  unfold op_aR at H
  split at H
  · rename_i i a r
    refine ⟨_, _, _, _, rfl, H.2.2, fun z => z.2.1 _ _, by rw [H.1]; decide, H.2.1, ?_⟩
    intro p e s mm args below meth c G F R Q loc HH locs cells slots la rr hr hS kk
    have hat := (hr.at H.1 (by decide) (by decide)).1
    rw [EE_5 H.1] at hat
    refine W.aald (v := va_rf (ro G loc (aR h a i.toNatClampNeg))) (ty := .array .int) F.1 (F.2.1.trans eb) hat ((F.kf.1.2 4 _ rfl).1 (hlen h a) (fun j => va_rf (ro G loc (aR h a j)))) rfl (fun q => by cases q) (by show ¬ (i < 0 ∨ (arrV _ _ _).slots.size ≤ _); rw [arrV_size]; exact H.2.1.vp) (by show (arrV _ _ _).slots[_]? = _; rw [arrV_read _ _ H.2.1.2]) rfl rfl hd ?_
    rw [cr_ro]
    exact kk
  · exact H.elim
theorem ss_sld (eb : (miT m).2.1 = cc) (hd : decode cc pc = .ok (.iaload, 1)) : SS l m pc (op_aI 7 (pc + 1)) := by
  refine ss_ald0 (nx := pc + 1) eb fun C' K' T' ls st h H => ?_
  unfold op_aI at H
  split at H
  · rename_i i a r
    refine ⟨_, _, _, _, rfl, H.2.2, fun _ => trivial, by rw [H.1]; decide, H.2.1, ?_⟩
    intro p e s mm args below meth c G F R Q loc HH locs cells slots la rr hr hS kk
    obtain ⟨a0, a1⟩ := hr.1.2.2.1 a (by rw [H.1]; decide)
    obtain ⟨q1, q2, q3⟩ := hr.2.2.2 a a0 a1 H.1
    obtain ⟨-, -, -, -, -, -, k1, k2, k3, -⟩ := F.kf
    rw [q1]
    rw [q3] at kk
    exact va_sld F.1 (F.2.1.trans eb) k1 k2 k3 hS (by rw [← q2]; exact H.2.1.vp) hd kk
  · exact H.elim
end
