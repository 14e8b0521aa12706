/-! SOUND 5: returns; fields read -/
set_option maxRecDepth 100000
section
variable {l : Launch} {m pc : Nat} {cc : ByteArray}
theorem FX.ret {k : MI} {p : Program} {s : State} {mm : MethodId} {args : Array Value} {meth : Method} {c : Code} {G : GX} (F : FX k p s mm args meth c G) : meth.sig.returnType = k.2.2.2.1 := F.2.2.2.2.2.1
theorem FX.locks {k : MI} {p : Program} {s : State} {mm : MethodId} {args : Array Value} {meth : Method} {c : Code} {G : GX} (F : FX k p s mm args meth c G) : meth.locks = false := F.2.2.2.2.2.2.1
theorem FX.name {k : MI} {p : Program} {s : State} {mm : MethodId} {args : Array Value} {meth : Method} {c : Code} {G : GX} (F : FX k p s mm args meth c G) : meth.name = k.1.name := F.2.2.2.2.2.2.2.1
theorem FX.tab {k : MI} {p : Program} {s : State} {mm : MethodId} {args : Array Value} {meth : Method} {c : Code} {G : GX} (F : FX k p s mm args meth c G) : c.exceptionTable.toList = tableOf k.2.2.2.2 := F.2.2.2.2.2.2.2.2.1
theorem FX.kf {k : MI} {p : Program} {s : State} {mm : MethodId} {args : Array Value} {meth : Method} {c : Code} {G : GX} (F : FX k p s mm args meth c G) : KF G s s.heap := F.2.2.2.2.2.2.2.2.2.1
theorem FX.hA {k : MI} {p : Program} {s : State} {mm : MethodId} {args : Array Value} {meth : Method} {c : Code} {G : GX} (F : FX k p s mm args meth c G) : ∀ q, s.heap.size ≤ q → gA G q := F.2.2.2.2.2.2.2.2.2.2
theorem FX.hts {k : MI} {p : Program} {s : State} {mm : MethodId} {args : Array Value} {meth : Method} {c : Code} {G : GX} (F : FX k p s mm args meth c G) : ∀ w ∈ lw_all, w.before args s = true := F.2.2.2.2.1
theorem ss_ret0 {f : SF} (hf : ∀ C K T ls st h, f C K T ls st h → ∃ o : AO, T o h ∧ (vokL h st → vokO h o) ∧ ∀ (p : Program) (e : Env) (s : State) (mm : MethodId) (args : Array Value) (below : List Frame) (meth : Method) (c : Code) (G : GX), FX (miT m) p s mm args meth c G → ∀ (R : Room) (loc : Nat → Nat) (H : Heap) (locs : List Loc) (cells slots : Nat) (la : Array Slot), HR G loc h H → va_S (gA G) s.heap H locs →
      W p l e R s mm args below meth c H locs cells slots (MQ below (QC G loc (hsz h) o h) args s cells slots (gA G)) (F0 mm pc la (st.map (cv G loc)))) : SS l m pc f := by
  intro d ls st h Q C' K' T' hC hK hT H
  obtain ⟨o, h1, h2, h3⟩ := hf _ _ _ _ _ _ H
  refine ⟨o, h, ⟨⟨Nat.le_refl _, Nat.le_refl _, Nat.le_refl _⟩, fun hz => ⟨fun z _ b => ⟨z, h2 b⟩, ?_⟩⟩, hT _ _ h1⟩
  intro p e s mm args below meth c G F loc HH locs cells slots la hr hS hl v1 v2 hla
  rw [Nat.sub_self, Nat.sub_self, Nat.add_zero, Nat.add_zero]
  exact vx_ret (h3 p e s mm args below meth c G F _ loc HH locs cells slots la hr hS)
theorem ss_ret (eb : (miT m).2.1 = cc) (er : (miT m).2.2.2.1 = none) (hd : decode cc pc = .ok (.return_, 1)) : SS l m pc op_ret := by
  refine ss_ret0 fun C K T ls st h H => ?_
  unfold op_ret at H
  split at H
  · refine ⟨_, H, fun _ => trivial, ?_⟩
    intro p e s mm args below meth c G F R loc HH locs cells slots la hr hS
    exact W.vret F.1 (F.2.1.trans eb) (F.ret.trans er) (fun t ht hW => ⟨⟨none, loc, rfl, fun _ _ => rfl, rfl, by rw [ht]; exact hr⟩, hS.F ht⟩) hS.2.2 hd (hlocks := F.locks)
  · exact H.elim
theorem ss_iret (eb : (miT m).2.1 = cc) (er : (miT m).2.2.2.1 = some .int) (hd : decode cc pc = .ok (.ireturn, 1)) : SS l m pc op_reti := by
  refine ss_ret0 fun C K T ls st h H => ?_
  unfold op_reti at H
  split at H
  · refine ⟨_, H, fun _ => trivial, ?_⟩
    intro p e s mm args below meth c G F R loc HH locs cells slots la hr hS
    exact W.iret F.1 (F.2.1.trans eb) (F.ret.trans er) (fun t ht hW => ⟨⟨some _, loc, rfl, fun _ _ => rfl, rfl, by rw [ht]; exact hr⟩, hS.F ht⟩) hS.2.2 hd (hlocks := F.locks)
  · exact H.elim
theorem ss_lret (eb : (miT m).2.1 = cc) (er : (miT m).2.2.2.1 = some .long) (hd : decode cc pc = .ok (.lreturn, 1)) : SS l m pc op_retl := by
  refine ss_ret0 fun C K T ls st h H => ?_
  unfold op_retl at H
  split at H
  · refine ⟨_, H, fun _ => trivial, ?_⟩
    intro p e s mm args below meth c G F R loc HH locs cells slots la hr hS
    exact W.lret F.1 (F.2.1.trans eb) (F.ret.trans er) (fun t ht hW => ⟨⟨some _, loc, rfl, fun _ _ => rfl, rfl, by rw [ht]; exact hr⟩, hS.F ht⟩) hS.2.2 hd (hlocks := F.locks)
  · exact H.elim
theorem nar_z {x : Int32} (h : x = 0 ∨ x = 1) : narrow .boolean (.int x) = .int x := by
  rcases h with rfl | rfl <;> rfl
theorem ss_zret (eb : (miT m).2.1 = cc) (er : (miT m).2.2.2.1 = some .boolean) (hd : decode cc pc = .ok (.ireturn, 1)) : SS l m pc op_retz := by
  refine ss_ret0 fun C K T ls st h H => ?_
  unfold op_retz at H
  split at H
  · refine ⟨_, H.2, fun _ => trivial, ?_⟩
    intro p e s mm args below meth c G F R loc HH locs cells slots la hr hS
    exact W.zret F.1 (F.2.1.trans eb) (F.ret.trans er) (nar_z H.1) (fun t ht hW => ⟨⟨some _, loc, rfl, fun _ _ => rfl, rfl, by rw [ht]; exact hr⟩, hS.F ht⟩) hS.2.2 hd (hlocks := F.locks)
  · exact H.elim
theorem ss_aret (eb : (miT m).2.1 = cc) {rt : FieldType} (er : (miT m).2.2.2.1 = some rt) (hrt : (∃ n, rt = .object n) ∨ ∃ t, rt = .array t) (hd : decode cc pc = .ok (.areturn, 1)) : SS l m pc op_reta := by
  refine ss_ret0 fun C K T ls st h H => ?_
  unfold op_reta at H
  split at H
  · refine ⟨_, H, fun b => vokL_h b, ?_⟩
    intro p e s mm args below meth c G F R loc HH locs cells slots la hr hS
    exact W.aret F.1 (F.2.1.trans eb) (F.ret.trans er) hrt ((cr_cases G loc _).elim (fun z => Or.inl z.2) (fun z => Or.inr z.2)) (fun t ht hW => ⟨⟨some (.ref _), loc, rfl, fun _ _ => rfl, rfl, by rw [ht]; exact hr⟩, hS.F ht⟩) hS.2.2 hd (hlocks := F.locks)
  · exact H.elim
/-- an object's cell over there -/
theorem EE_obj {G : GX} {loc : Nat → Nat} {h : HP} {a c : Nat} (e : hcls h a = c) (hc : 7 < c) : EE G loc h a = .inr (clI c, (flT c).map (fv G loc h a)) := by
  unfold EE
  rw [e]
  split <;> first | omega | rfl
theorem HR.at {G : GX} {loc : Nat → Nat} {h : HP} {H : Heap} (hr : HR G loc h H) {a c : Nat} (e : hcls h a = c) (h0 : c ≠ 0) (h7 : c ≠ 7) : va_at (gD G) clT (loc a, EE G loc h a) H ∧ gA G (loc a) ∧ 0 < a ∧ a < hsz h := by
  obtain ⟨h1, h2⟩ := hr.1.2.2.1 a (by rw [e]; exact h0)
  obtain ⟨h3, h4⟩ := hr.2.1 a h1 h2 (by rw [e]; exact h7)
  exact ⟨h3, h4, h1, h2⟩
theorem cr_loc {G : GX} {loc : Nat → Nat} {a sz : Nat} (h0 : 0 < a) (h1 : a < sz) (hz : sz ≤ strB) : cr G loc a = .ref (loc a) := by
  unfold cr
  rw [if_neg (by omega), if_neg (by omega)]
theorem cr_ro (G : GX) (loc : Nat → Nat) (a : Nat) : va_rf (ro G loc a) = cr G loc a := by
  unfold cr ro
  by_cases h : a = 0
  · simp [h, va_rf]
  · rw [if_neg h, if_neg h]
    split <;> rfl
/-- the field f (kind kd) of the class c, linked at place idx of the class own -/
def GF (own ref host : String) (idx kd f c : Nat) : Prop := ∃ (C : String) (T : u_T) (N k : Nat), 7 < c ∧ clT[clI c]? = some (C, T, N) ∧ (∀ w ∈ u_ws C T N, w ∈ lw_all) ∧ k < N ∧ (flT c)[k]? = some (kd, f) ∧
  (Cond.fieldLink own idx ref (T k).2.1 (T k).2.2.1 ∈ lw_all ∨ Cond.fieldLinkNest own idx ref (T k).2.1 (T k).2.2.1 host ∈ nwT) ∧ (T k).1 = ref
/-- a field read -/
theorem ss_get0 {f idx kd : Nat} {own ref host : String} {g : SF} (eb : (miT m).2.1 = cc) (eo : (miT m).1.cls = own) (hd : decode cc pc = .ok (.getfield idx, 3))
    (hg : ∀ C' K' T' ls st h, g C' K' T' ls st h → ∃ (a : Nat) (r : List Value) (v : Value) (c : Nat), st = .ref a :: r ∧ hcls h a = c ∧ GF own ref host idx kd f c ∧ K' (pc + 3) ls (v :: r) h ∧ (HC h → vok h v) ∧ ∀ (G : GX) (loc : Nat → Nat), HC h → hsz h ≤ strB → fv G loc h a (kd, f) = cv G loc v) : SS l m pc g := by
  intro d ls st h Q C' K' T' hC hK hT H
  obtain ⟨a, r, v, c, rfl, ha, ⟨C, T, N, k, hc, hcl, hin, hk, hf, hlink, hsame⟩, hk', hv1, hv2⟩ := hg _ _ _ _ _ _ H
  obtain ⟨o, h', hs, hq⟩ := hK _ _ _ _ hk'
  refine ⟨o, h', SM.pure hs (fun z => z) (fun z a b => ⟨a, vokL_c (hv1 z) (vokL_t b)⟩) ?_, hq⟩
  intro p e s mm args below meth c0 G F R QQ loc HH locs cells slots la hr hS hl v1 v2 hz hla kk
  obtain ⟨hat, hA, ha0, ha1⟩ := hr.at ha (by omega) (by omega)
  rw [EE_obj ha hc] at hat
  have hP : va_P (gD G) clT [(loc a, .inr (clI c, (flT c).map (fv G loc h a)))] HH := by
    intro i q hq
    cases i with
    | zero => cases hq; exact hat
    | succ i => simp at hq
  have e1 : cv G loc (.ref a) = .ref (loc a) := cr_loc ha0 ha1 hz
  have hvv : ((flT c).map (fv G loc h a))[k]? = some (cv G loc v) := by rw [List.getElem?_map, hf, Option.map_some, hv2 G loc hr.1 hz]
  have hown : s.vm.findClass own = some mm.cls := by rw [← eo]; exact F.2.2.2.1
  have kk := kk la hla
  simp only [List.map_cons, e1] at kk ⊢
  rcases hlink with hlink | hlink
  · exact va_get F.1 (F.2.1.trans eb) F.hts hin hown F.kf.1 hP 0 rfl hcl k hk (F.hts _ hlink) (by rw [hsame]; exact fun _ z => z) hvv hd kk
  · exact va_getN F.1 (F.2.1.trans eb) F.hts hin hown F.kf.1 hP 0 rfl hcl k hk (va_Nw.use rfl (F.kf.2.1 _ hlink)) (by rw [hsame]; exact fun _ z => z) hvv hd kk
theorem ss_getI {c f idx : Nat} {own ref host : String} (eb : (miT m).2.1 = cc) (eo : (miT m).1.cls = own) (hd : decode cc pc = .ok (.getfield idx, 3)) (hF : GF own ref host idx 0 f c) : SS l m pc (op_gI c f (pc + 3)) := by
  refine ss_get0 (f := f) (kd := 0) (ref := ref) (host := host) eb eo hd fun C' K' T' ls st h H => ?_
  unfold op_gI at H
  split at H
  · exact ⟨_, _, _, _, rfl, H.1, hF, H.2, fun _ => trivial, fun _ _ _ _ => rfl⟩
  · exact H.elim
theorem ss_getIs {cs : List Nat} {f idx : Nat} {own ref host : String} (eb : (miT m).2.1 = cc) (eo : (miT m).1.cls = own) (hd : decode cc pc = .ok (.getfield idx, 3)) (hF : ∀ c ∈ cs, GF own ref host idx 0 f c) : SS l m pc (op_gIs cs f (pc + 3)) := by
  refine ss_get0 (f := f) (kd := 0) (ref := ref) (host := host) eb eo hd fun C' K' T' ls st h H => ?_
  unfold op_gIs at H
  split at H
  · exact ⟨_, _, _, _, rfl, rfl, hF _ (List.contains_iff_mem.mp H.1), H.2, fun _ => trivial, fun _ _ _ _ => rfl⟩
  · exact H.elim
theorem ss_getJ {c f idx : Nat} {own ref host : String} (eb : (miT m).2.1 = cc) (eo : (miT m).1.cls = own) (hd : decode cc pc = .ok (.getfield idx, 3)) (hF : GF own ref host idx 1 f c) : SS l m pc (op_gJ c f (pc + 3)) := by
  refine ss_get0 (f := f) (kd := 1) (ref := ref) (host := host) eb eo hd fun C' K' T' ls st h H => ?_
  unfold op_gJ at H
  split at H
  · exact ⟨_, _, _, _, rfl, H.1, hF, H.2, fun _ => trivial, fun _ _ _ _ => rfl⟩
  · exact H.elim
theorem ss_getR {c f idx : Nat} {own ref host : String} (eb : (miT m).2.1 = cc) (eo : (miT m).1.cls = own) (hd : decode cc pc = .ok (.getfield idx, 3)) (hF : GF own ref host idx 2 f c) : SS l m pc (op_gR c f (pc + 3)) := by
  refine ss_get0 (f := f) (kd := 2) (ref := ref) (host := host) eb eo hd fun C' K' T' ls st h H => ?_
  unfold op_gR at H
  split at H
  · exact ⟨_, _, _, _, rfl, H.1, hF, H.2, fun z => z.1 _ _, fun _ _ _ _ => rfl⟩
  · exact H.elim
end
