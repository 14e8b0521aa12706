/-! SOUND 12: arrays of references, casts -/
set_option maxRecDepth 100000
section
variable {l : Launch} {m pc : Nat} {cc : ByteArray}
theorem ar_new {h : HP} {c n k : Nat} : aR (hnew h c n k) (hsz h) = fun _ => 0 := up1_eq
theorem ss_na6 {own : String} {idx : Nat} (eb : (miT m).2.1 = cc) (eo : (miT m).1.cls = own) (hd : decode cc pc = .ok (.anewarray idx, 3)) (hw : Cond.classLink own idx "LibraryDesk$Thing" ∈ lw_all) : SS l m pc (op_na 6 (pc + 3)) := by
  intro d ls st h Q C' K' T' hC hK hT H
  unfold op_na at H
  split at H
  · rename_i n r
    obtain ⟨hn, hb, H⟩ := H
    obtain ⟨o, h', hs, hq⟩ := hK _ _ _ _ (H _ _ rfl rfl)
    refine ⟨o, h', SM.new hs (by decide) (fun z => vokL_t z) ?_, hq⟩
    intro p e s mm args below meth c0 G F R QQ loc HH locs cells slots la hr hS v2 hz hcells hslots kk
    have hown : s.vm.findClass own = some mm.cls := by rw [← eo]; exact F.2.2.2.1
    refine va_newq F.1 (F.2.1.trans eb) hown (F.hts _ hw) F.kf.2.2.2.1 F.kf.1 hr.P hr.D hS F.2.2.2.2.2.2.2.2.2.2 hn rfl (by omega) hcells hslots hd ?_
    intro q cA H1 hK1 hP hD hS1
    have e : cA = gC G 6 := arr_cls (G := G) (t0 := 5) hK1 rfl (fun c z => by obtain ⟨_, _, _, _, _, z⟩ := z; exact z)
    subst e
    refine kk q H1 _ ?_ hP hD hS1
    rw [EE_6 cl_new, ar_new, ln_new]
    rfl
  · exact H.elim
/-- an object's cell, its class by name -/
theorem HR.recv {k : MI} {p : Program} {s : State} {mm : MethodId} {args : Array Value} {meth : Method} {c0 : Code} {G : GX} (F : FX k p s mm args meth c0 G) {loc : Nat → Nat} {h : HP} {H : Heap} (hr : HR G loc h H) {a c : Nat} (ha : hcls h a = c) (hc : 7 < c) {C : String} {T : u_T} {N : Nat} (hcl : clT[clI c]? = some (C, T, N)) :
    ∃ cell : Cell, H[loc a]? = some cell ∧ cell.vm.isStatics = false ∧ s.vm.findClass C = some cell.cls := by
  have hat := (hr.at ha (by omega) (by omega)).1
  rw [EE_obj ha hc] at hat
  exact va_recv (q := (C, T, N)) F.kf.1 (va_one hat) hcl (q0 := 0) rfl
/-- the class c casts to nm -/
def KF1 (nm : String) (c : Nat) : Prop := 7 < c ∧ ∃ (C : String) (T : u_T) (N : Nat), clT[clI c]? = some (C, T, N) ∧ (Cond.castable C nm ∈ nwT ∨ C = nm)
theorem ss_cast {cs : List Nat} {own nm : String} {idx : Nat} (eb : (miT m).2.1 = cc) (eo : (miT m).1.cls = own) (hd : decode cc pc = .ok (.checkcast idx, 3)) (hw : Cond.classLink own idx nm ∈ lw_all) (hf : ∀ c ∈ cs, KF1 nm c) : SS l m pc (op_cast cs (pc + 3)) := by
  intro d ls st h Q C' K' T' hC hK hT H
  unfold op_cast at H
  split at H
  · rename_i a r
    obtain ⟨o, h', hs, hq⟩ := hK _ _ _ _ H.2
    refine ⟨o, h', SM.pure hs (fun z => z) (fun z a b => ⟨a, b⟩) ?_, hq⟩
    intro p e s mm args below meth c0 G F R QQ loc HH locs cells slots la hr hS hl v1 v2 hz hla kk
    have hown : s.vm.findClass own = some mm.cls := by rw [← eo]; exact F.2.2.2.1
    have kk := kk la hla
    simp only [List.map_cons] at kk ⊢
    rcases H.1 with h0 | h0
    · subst h0
      exact lv_castN F.1 (F.2.1.trans eb) hd kk
    · obtain ⟨hc, C, T, N, hcl, hn⟩ := hf _ (List.contains_iff_mem.mp h0)
      obtain ⟨-, -, ha0, ha1⟩ := hr.at (a := a) (c := hcls h a) rfl (by omega) (by omega)
      have e1 : cv G loc (.ref a) = .ref (loc a) := cr_loc ha0 ha1 hz
      rw [e1] at kk ⊢
      have hrc := hr.recv F rfl hc hcl
      rcases hn with hn | hn
      · exact va_castY F.1 (F.2.1.trans eb) hown (F.hts _ hw) (F.kf.2.1 _ hn) hrc hd kk
      · subst hn
        exact va_castS F.1 (F.2.1.trans eb) hown (F.hts _ hw) (F.kf.1.1 _ _ hcl).2 hrc hd kk
  · exact H.elim
theorem ro_up {G : GX} {loc : Nat → Nat} {h : HP} {a i v : Nat} : (fun j => ro G loc (aR (tR h a i v) a j)) = va_up (fun j => ro G loc (aR h a j)) i (ro G loc v) := by
  funext j
  rw [show aR (tR h a i v) a = up1 (aR h a) i v from up2_eq]
  unfold up1 va_up
  by_cases e : j = i <;> simp [e]
theorem ss_aast6 {cs : List Nat} (eb : (miT m).2.1 = cc) (hd : decode cc pc = .ok (.aastore, 1)) (hf : ∀ c ∈ cs, 7 < c ∧ ∃ (C : String) (T : u_T) (N : Nat), clT[clI c]? = some (C, T, N) ∧ Cond.castable C "LibraryDesk$Thing" ∈ nwT) : SS l m pc (op_tR 6 (pc + 1) cs) := by
  refine ss_ast0 (nx := pc + 1) fun C' K' T' ls st h H => ?_
  unfold op_tR at H
  split at H
  · rename_i v i a r
    obtain ⟨hA, hV, hI, H⟩ := H
    refine ⟨_, _, _, _, _, rfl, H _ rfl, by rw [hA]; decide, by rw [hA]; decide, OnlyA.tR _ _ _ _, fun z hv j => ?_, ?_⟩
    · rw [show aR (tR h a i.toNatClampNeg v) a = up1 (aR h a) i.toNatClampNeg v from up2_eq]
      unfold up1
      by_cases e : j = i.toNatClampNeg
      · rw [if_pos e]; exact hv
      · rw [if_neg e]; exact z.2.1 _ j
    · intro p e s mm args below meth c G F R Q loc HH locs cells slots la rr j hr hS hz hj kk
      rw [EE_6 hA] at hj
      have hA1 : hcls (tR h a i.toNatClampNeg v) a = 6 := hA
      rcases hV with h0 | h0
      · subst h0
        refine va_astqN F.1 (F.2.1.trans eb) F.kf.1 hr.P hr.D hS j 5 hj rfl hI.vp hd fun H1 locs1 hP _ hS1 => kk H1 locs1 ?_ hS1
        rw [EE_6 hA1, ro_up]
        exact hP
      · obtain ⟨hc, C, T, N, hcl, hn⟩ := hf _ (List.contains_iff_mem.mp h0)
        obtain ⟨-, -, ha0, ha1⟩ := hr.at (a := v) (c := hcls h v) rfl (by omega) (by omega)
        obtain ⟨jv, hjv, hjv2⟩ := wsA_at (G := G) (loc := loc) (mem_lvc.mpr ⟨ha1, ha0, by omega⟩)
        rw [EE_obj rfl hc] at hjv2
        rw [show cv G loc (.ref v) = .ref (loc v) from cr_loc ha0 ha1 hz]
        refine va_astqO (r := (C, T, N)) F.1 (F.2.1.trans eb) F.kf.1 hr.P hr.D hS j 5 jv (clI (hcls h v)) hj rfl (F.kf.2.1 _ hn) hjv2 hcl hI.vp hd fun H1 locs1 hP _ hS1 => kk H1 locs1 ?_ hS1
        rw [EE_6 hA1, ro_up, show ro G loc v = some (loc v) by unfold ro; rw [if_neg (by omega), if_neg (by omega)]]
        exact hP
  · exact H.elim
end
