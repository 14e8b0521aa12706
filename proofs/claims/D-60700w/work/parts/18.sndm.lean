/-! SOUND 22: arraycopy; arrays of arrays -/
set_option maxRecDepth 100000
theorem OnlyA.wI (h : HP) (a : Nat) (f : Nat → Int32) : OnlyA h (wI h a f) a := ⟨rfl, rfl, rfl, rfl, rfl, rfl, rfl, rfl, fun _ e => ⟨up1_ne e, rfl, rfl⟩⟩
theorem OnlyA.wJ (h : HP) (a : Nat) (f : Nat → Int64) : OnlyA h (wJ h a f) a := ⟨rfl, rfl, rfl, rfl, rfl, rfl, rfl, rfl, fun _ e => ⟨rfl, up1_ne e, rfl⟩⟩
theorem OnlyA.hc {h h1 : HP} {a : Nat} (hO : OnlyA h h1 a) (hr : aR h1 a = aR h a) (z : HC h) : HC h1 := by
  obtain ⟨q1, q2, q3, q4⟩ := z
  obtain ⟨e1, e2, e3, e4, e5, e6, e7, e8, e9⟩ := hO
  have er : ∀ x, rok h x → rok h1 x := fun x hx => by unfold rok at hx ⊢; rw [e6]; exact hx
  refine ⟨fun g b => by rw [e5]; exact er _ (q1 g b), fun b i => er _ ?_, fun b hb => by rw [e1] at hb; rw [e6]; exact q3 b hb, by rw [e6]; exact q4⟩
  by_cases z : b = a
  · subst z; rw [hr]; exact q2 b i
  · rw [(e9 b z).2.2]; exact q2 b i
section
variable {l : Launch} {m pc : Nat} {cc : ByteArray}
/-- a copy within the arrays of one class -/
theorem ss_cp0 {g : SF} (hg : ∀ C' K' T' ls st h, g C' K' T' ls st h → ∃ (a b : Nat) (n dp sp : Int32) (r : List Value) (h1 : HP), st = .int n :: .int dp :: .ref b :: .int sp :: .ref a :: r ∧ stk 8 r = true ∧ K' (pc + 3) ls r h1 ∧ hcls h a ≠ 0 ∧ hcls h a ≠ 7 ∧ hcls h b ≠ 0 ∧ hcls h b ≠ 7 ∧ OnlyA h h1 b ∧ aR h1 b = aR h b ∧
      ∀ (p : Program) (e : Env) (s : State) (mm : MethodId) (args : Array Value) (below : List Frame) (meth : Method) (c : Code) (G : GX), FX (miT m) p s mm args meth c G → ∀ (R : Room) (Q : State → Prop) (loc : Nat → Nat) (H : Heap) (locs : List Loc) (cells slots : Nat) (la : Array Slot) (rr : List Value) (i j : Nat), HR G loc h H → va_S (gA G) s.heap H locs → 1 ≤ R.frames → (rr.map fun v => v.category).sum + (nativeFrameWords "java/lang/System" "arraycopy" 5 + 11) ≤ R.locals → la.size = (miT m).2.2.1 →
        (wsA G loc h)[i]? = some (loc a, EE G loc h a) → (wsA G loc h)[j]? = some (loc b, EE G loc h b) →
        (∀ (H1 : Heap) (locs1 : List Loc), va_P (gD G) clT ((wsA G loc h).set j (loc b, EE G loc h1 b)) H1 → va_S (gA G) s.heap H1 locs1 → W p l e R s mm args below meth c H1 locs1 cells slots Q (F0 mm (pc + 3) la rr)) → W p l e R s mm args below meth c H locs cells slots Q (F0 mm pc la (.int n :: .int dp :: .ref (loc b) :: .int sp :: .ref (loc a) :: rr))) : SS l m pc g := by
  intro d ls st h Q C' K' T' hC hK hT H
  obtain ⟨a, b, n, dp, sp, r, h1, rfl, hk8, hk', a0, a7, b0, b7, hO, hR, hw⟩ := hg _ _ _ _ _ _ H
  obtain ⟨o, h', hs, hq⟩ := hK _ _ _ _ hk'
  refine ⟨o, h', SM.putR hs hO.2.2.2.2.2.2.1 hO.2.2.2.2.2.2.2.1 hO.2.2.2.2.2.1 (fun z b => ⟨vokL_t (vokL_t (vokL_t (vokL_t (vokL_t b)))), hO.hc hR z⟩) ?_, hq⟩
  intro p e s mm args below meth c0 G F R QQ loc HH locs cells slots la hr hS v2 hz hRm hla kk
  obtain ⟨ha0, ha1⟩ := hr.1.2.2.1 a a0
  obtain ⟨hb0, hb1⟩ := hr.1.2.2.1 b b0
  obtain ⟨i, hi, hi2⟩ := wsA_at (G := G) (loc := loc) (mem_lvc.mpr ⟨ha1, ha0, a7⟩)
  obtain ⟨j, hj, hj2⟩ := wsA_at (G := G) (loc := loc) (mem_lvc.mpr ⟨hb1, hb0, b7⟩)
  have e1 : cv G loc (.ref a) = .ref (loc a) := cr_loc ha0 ha1 hz
  have e2 : cv G loc (.ref b) = .ref (loc b) := cr_loc hb0 hb1 hz
  have hcat := stk_cat (G := G) (loc := loc) r 8 hk8
  simp only [List.map_cons, e1, e2]
  refine hw p e s mm args below meth c0 G F R QQ loc HH locs cells slots la _ i j hr hS (by omega) ?_ hla.1 hi2 hj2 fun H1 locs1 hP hS1 => ?_
  · have hn : nativeFrameWords "java/lang/System" "arraycopy" 5 ≤ 100 := by decide
    omega
  refine kk H1 locs1 (hr.set hj hO.1 hO.2.2.2.2.2.1 (hO.hc hR hr.1) (fun b hb => OnlyA.eeq hO hb) (fun x hx => ⟨by rw [hO.2.1], ?_⟩) hP) hS1
  exact (hO.2.2.2.2.2.2.2.2 x (fun z => b7 (by rw [← z]; exact hx))).1
theorem ss_cp1 {own : String} {idx : Nat} (eb : (miT m).2.1 = cc) (eo : (miT m).1.cls = own) (hd : decode cc pc = .ok (.invokestatic idx, 3)) (w1 : Cond.methodLink own idx arraycopyName ∈ lw_all) (w2 : Cond.native arraycopyName ∈ lw_all) (w3 : Cond.static arraycopyName ∈ lw_all) (w4 : Cond.initialized "java/lang/System" ∈ lw_all) : SS l m pc (op_cpI 1 (pc + 3)) := by
  refine ss_cp0 fun C' K' T' ls st h H => ?_
  unfold op_cpI at H
  split at H
  · rename_i n dp b sp a r
    cases hk8 : stk 8 r with
    | false => rw [hk8] at H; exact H.elim
    | true =>
      rw [hk8] at H
      simp only [cond_true] at H
      obtain ⟨hA, hB, h1, h2, h3, h4, h5, H⟩ := H
      refine ⟨a, b, n, dp, sp, r, _, rfl, hk8, H _ rfl, by rw [hA]; decide, by rw [hA]; decide, by rw [hB]; decide, by rw [hB]; decide, OnlyA.wI _ _ _, rfl, ?_⟩
      intro p e s mm args below meth c G F R Q loc HH locs cells slots la rr i j hr hS hf hl hla hi hj kk
      have hown : s.vm.findClass own = some mm.cls := by rw [← eo]; exact F.2.2.2.1
      rw [EE_1 hA] at hi
      rw [EE_1 hB] at hj
      refine va_copyi F.1 (F.2.1.trans eb) (F.2.2.1.trans hla.symm) hown (F.hts _ w1) (F.hts _ w2) (F.hts _ w3) (F.hts _ w4) F.kf.1 hr.P hr.D hS i j 0 0 hi hj rfl rfl rfl h3 h2 h1 h4 h5 (fun _ _ => rfl) hf hl hd fun H1 locs1 hP _ hS1 => kk H1 locs1 ?_ hS1
      rw [EE_1 (show hcls (wI h b _) b = 1 from hB), show aI (wI h b (cpI (aI h a) (aI h b) sp.toNatClampNeg dp.toNatClampNeg n.toNatClampNeg)) b = cpI (aI h a) (aI h b) sp.toNatClampNeg dp.toNatClampNeg n.toNatClampNeg from up1_eq]
      exact hP
  · exact H.elim
theorem isB_fits {x : Int32} (h : isB x) : fits .byte (.int x) = true := by
  have h1 := congrArg Int32.toInt h
  rw [Int8.toInt_toInt32] at h1
  have h2 := Int8.le_toInt x.toInt8
  have h3 := Int8.toInt_lt x.toInt8
  show (decide (-128 ≤ x) && decide (x ≤ 127)) = true
  rw [Bool.and_eq_true, decide_eq_true_eq, decide_eq_true_eq, Int32.le_iff_toInt_le, Int32.le_iff_toInt_le, ← h1]
  have e1 : (-128 : Int32).toInt = -128 := by decide
  have e2 : (127 : Int32).toInt = 127 := by decide
  rw [e1, e2]
  omega
theorem ss_cp2 {own : String} {idx : Nat} (eb : (miT m).2.1 = cc) (eo : (miT m).1.cls = own) (hd : decode cc pc = .ok (.invokestatic idx, 3)) (w1 : Cond.methodLink own idx arraycopyName ∈ lw_all) (w2 : Cond.native arraycopyName ∈ lw_all) (w3 : Cond.static arraycopyName ∈ lw_all) (w4 : Cond.initialized "java/lang/System" ∈ lw_all) : SS l m pc (op_cpB (pc + 3)) := by
  refine ss_cp0 fun C' K' T' ls st h H => ?_
  unfold op_cpB at H
  split at H
  · rename_i n dp b sp a r
    cases hk8 : stk 8 r with
    | false => rw [hk8] at H; exact H.elim
    | true =>
      rw [hk8] at H
      simp only [cond_true] at H
      obtain ⟨hA, hB, h1, h2, h3, h4, h5, h6, H⟩ := H
      refine ⟨a, b, n, dp, sp, r, _, rfl, hk8, H _ rfl, by rw [hA]; decide, by rw [hA]; decide, by rw [hB]; decide, by rw [hB]; decide, OnlyA.wI _ _ _, rfl, ?_⟩
      intro p e s mm args below meth c G F R Q loc HH locs cells slots la rr i j hr hS hf hl hla hi hj kk
      have hown : s.vm.findClass own = some mm.cls := by rw [← eo]; exact F.2.2.2.1
      rw [EE_2 hA] at hi
      rw [EE_2 hB] at hj
      refine va_copyi F.1 (F.2.1.trans eb) (F.2.2.1.trans hla.symm) hown (F.hts _ w1) (F.hts _ w2) (F.hts _ w3) (F.hts _ w4) F.kf.1 hr.P hr.D hS i j 1 1 hi hj rfl rfl rfl h3 h2 h1 h4 h5 (fun i hi => isB_fits (h6 i hi)) hf hl hd fun H1 locs1 hP _ hS1 => kk H1 locs1 ?_ hS1
      rw [EE_2 (show hcls (wI h b _) b = 2 from hB), show aI (wI h b (cpI (aI h a) (aI h b) sp.toNatClampNeg dp.toNatClampNeg n.toNatClampNeg)) b = cpI (aI h a) (aI h b) sp.toNatClampNeg dp.toNatClampNeg n.toNatClampNeg from up1_eq]
      exact hP
  · exact H.elim
theorem ss_cp4 {own : String} {idx : Nat} (eb : (miT m).2.1 = cc) (eo : (miT m).1.cls = own) (hd : decode cc pc = .ok (.invokestatic idx, 3)) (w1 : Cond.methodLink own idx arraycopyName ∈ lw_all) (w2 : Cond.native arraycopyName ∈ lw_all) (w3 : Cond.static arraycopyName ∈ lw_all) (w4 : Cond.initialized "java/lang/System" ∈ lw_all) : SS l m pc (op_cpJ (pc + 3)) := by
  refine ss_cp0 fun C' K' T' ls st h H => ?_
  unfold op_cpJ at H
  split at H
  · rename_i n dp b sp a r
    cases hk8 : stk 8 r with
    | false => rw [hk8] at H; exact H.elim
    | true =>
      rw [hk8] at H
      simp only [cond_true] at H
      obtain ⟨hA, hB, h1, h2, h3, h4, h5, H⟩ := H
      refine ⟨a, b, n, dp, sp, r, _, rfl, hk8, H _ rfl, by rw [hA]; decide, by rw [hA]; decide, by rw [hB]; decide, by rw [hB]; decide, OnlyA.wJ _ _ _, rfl, ?_⟩
      intro p e s mm args below meth c G F R Q loc HH locs cells slots la rr i j hr hS hf hl hla hi hj kk
      have hown : s.vm.findClass own = some mm.cls := by rw [← eo]; exact F.2.2.2.1
      rw [EE_4 hA] at hi
      rw [EE_4 hB] at hj
      refine va_copyl F.1 (F.2.1.trans eb) (F.2.2.1.trans hla.symm) hown (F.hts _ w1) (F.hts _ w2) (F.hts _ w3) (F.hts _ w4) F.kf.1 hr.P hr.D hS i j 3 3 hi hj rfl rfl rfl h3 h2 h1 h4 h5 (fun _ _ => rfl) hf hl hd fun H1 locs1 hP _ hS1 => kk H1 locs1 ?_ hS1
      rw [EE_4 (show hcls (wJ h b _) b = 4 from hB), show aJ (wJ h b (cpJ (aJ h a) (aJ h b) sp.toNatClampNeg dp.toNatClampNeg n.toNatClampNeg)) b = cpJ (aJ h a) (aJ h b) sp.toNatClampNeg dp.toNatClampNeg n.toNatClampNeg from up1_eq]
      exact hP
  · exact H.elim
end
