/-! SOUND 13: constants of the pool -/
set_option maxRecDepth 100000
section
variable {l : Launch} {m pc : Nat} {cc : ByteArray}
theorem ss_pushF {nx : Nat} {x : Value} (hx : ∀ h : HP, vok h x)
    (row : ∀ (p : Program) (e : Env) (s : State) (mm : MethodId) (args : Array Value) (below : List Frame) (meth : Method) (c : Code) (G : GX), FX (miT m) p s mm args meth c G → ∀ (R : Room) (Q : State → Prop) (loc : Nat → Nat) (h : HP) (H : Heap) (locs : List Loc) (cells slots : Nat) (la : Array Slot) (r : List Value), HR G loc h H → va_S (gA G) s.heap H locs → hsz h ≤ strB →
      W p l e R s mm args below meth c H locs cells slots Q (F0 mm nx la (cv G loc x :: r)) → W p l e R s mm args below meth c H locs cells slots Q (F0 mm pc la r)) : SS l m pc (op_c x nx) := by
  intro d ls st h Q C' K' T' hC hK hT H
  obtain ⟨o, h', hs, hq⟩ := hK _ _ _ _ H
  refine ⟨o, h', SM.pure hs (fun z => z) (fun z a b => ⟨a, vokL_c (hx h) b⟩) ?_, hq⟩
  intro p e s mm args below meth c0 G F R QQ loc HH locs cells slots la hr hS hl v1 v2 hz hla kk
  have kk := kk la hla
  simp only [List.map_cons] at kk
  exact row p e s mm args below meth c0 G F R QQ loc h HH locs cells slots la _ hr hS hz kk
theorem ss_ldc {own : String} {idx : Nat} {v : Int32} (eb : (miT m).2.1 = cc) (eo : (miT m).1.cls = own) (hd : decode cc pc = .ok (.ldc idx, 2)) (hw : Cond.constant own idx v ∈ lw_all) : SS l m pc (op_c (.int v) (pc + 2)) := by
  refine ss_pushF (fun _ => trivial) ?_
  intro p e s mm args below meth c G F R Q loc h H locs cells slots la r hr hS hz kk
  exact lv_ldc F.1 (F.2.1.trans eb) (by rw [← eo]; exact F.2.2.2.1) (F.hts _ hw) hd kk
theorem ss_ldcw {own : String} {idx : Nat} {v : Int32} (eb : (miT m).2.1 = cc) (eo : (miT m).1.cls = own) (hd : decode cc pc = .ok (.ldc_w idx, 3)) (hw : Cond.constant own idx v ∈ lw_all) : SS l m pc (op_c (.int v) (pc + 3)) := by
  refine ss_pushF (fun _ => trivial) ?_
  intro p e s mm args below meth c G F R Q loc h H locs cells slots la r hr hS hz kk
  exact lv_ldcw F.1 (F.2.1.trans eb) (by rw [← eo]; exact F.2.2.2.1) (F.hts _ hw) hd kk
theorem ss_ldc2 {own : String} {idx : Nat} {v : Int64} (eb : (miT m).2.1 = cc) (eo : (miT m).1.cls = own) (hd : decode cc pc = .ok (.ldc2_w idx, 3)) (hw : Cond.constantLong own idx v ∈ lw_all) : SS l m pc (op_c (.long v) (pc + 3)) := by
  refine ss_pushF (fun _ => trivial) ?_
  intro p e s mm args below meth c G F R Q loc h H locs cells slots la r hr hS hz kk
  exact lv_ldc2 F.1 (F.2.1.trans eb) (by rw [← eo]; exact F.2.2.2.1) (F.hts _ hw) hd kk
end
