/-! SOUND 11: new objects, new arrays -/
set_option maxRecDepth 100000
def dV (q : Nat × Nat) : Value := match q.1 with
  | 0 => .int 0
  | 1 => .long 0
  | _ => .null
theorem fv_new {G : GX} {loc : Nat → Nat} {h : HP} {c n k : Nat} : fv G loc (hnew h c n k) (hsz h) = dV := by
  funext q
  unfold fv dV
  rw [show fI (hnew h c n k) q.2 (hsz h) = 0 from up1_eq, show fJ (hnew h c n k) q.2 (hsz h) = 0 from up1_eq, show fR (hnew h c n k) q.2 (hsz h) = 0 from up1_eq]
  rfl
/-- the class c, N fields, that the method of own makes by its constant idx -/
def NF (own : String) (idx c N : Nat) : Prop := ∃ (C : String) (T : u_T) (ty0 : Nat → FieldType), 7 < c ∧ clT[clI c]? = some (C, T, N) ∧ (∀ w ∈ u_ws C T N, w ∈ lw_all) ∧ (∀ k, k < N → parseFieldDescriptor (T k).2.2.1 = some (ty0 k)) ∧
  Cond.classLink own idx C ∈ lw_all ∧ Cond.instantiable C N ∈ lw_all ∧ Cond.initialized C ∈ lw_all ∧ ∀ j, j < N → defaultValue (ty0 j) = vp_V ((flT c).map dV) j
section
variable {l : Launch} {m pc : Nat} {cc : ByteArray}
theorem ss_new {c N idx : Nat} {own : String} (eb : (miT m).2.1 = cc) (eo : (miT m).1.cls = own) (hd : decode cc pc = .ok (.new idx, 3)) (hN : NF own idx c N) : SS l m pc (op_new c N (pc + 3)) := by
  intro d ls st h Q C' K' T' hC hK hT H
  obtain ⟨o, h', hs, hq⟩ := hK _ _ _ _ (H _ _ rfl rfl)
  obtain ⟨C, T, ty0, hc, hcl, hin, hty, w1, w2, w3, hdf⟩ := hN
  refine ⟨o, h', SM.new hs (by omega) (fun z => z) ?_, hq⟩
  intro p e s mm args below meth c0 G F R QQ loc HH locs cells slots la hr hS v2 hz hcells hslots kk
  have hown : s.vm.findClass own = some mm.cls := by rw [← eo]; exact F.2.2.2.1
  refine va_new F.1 (F.2.1.trans eb) F.hts hin ty0 hty hown (F.hts _ w1) (F.hts _ w2) (F.hts _ w3) F.kf.1 hr.P hr.D hS F.2.2.2.2.2.2.2.2.2.2 hcl hdf hcells hslots hd ?_
  intro q H1 hP hD hS1
  refine kk q H1 _ ?_ hP hD hS1
  rw [EE_obj (show hcls (hnew h c 0 N) (hsz h) = c from up1_eq) hc, fv_new]
theorem arr_cls {G : GX} {s : State} {t0 : Nat} {cB cA : ClassId} {ty : FieldType} {cl : List vw_C} {D : va_G} {tys : List (ClassId × FieldType)} (hK : va_K D cl (tys ++ [(cA, ty)]) s) (ht : tys[t0]? = some (cB, ty)) (hp : ∀ c, va_RA s c ty → s.vm.findClass ("[" ++ ty.toString) = some c) : cA = cB := by
  have h1 := hp _ (hK.2 tys.length (cA, ty) (by rw [List.getElem?_append_right (Nat.le_refl _), Nat.sub_self]; rfl)).2
  have h2 := hp _ (hK.2 t0 (cB, ty) (by rw [List.getElem?_append_left (List.getElem?_eq_some_iff.mp ht).1]; exact ht)).2
  exact Option.some.inj (h1.symm.trans h2)
end
section
variable {l : Launch} {m pc : Nat} {cc : ByteArray}
theorem ss_na0 {c : Nat} {at0 : ArrayType} {ty : FieldType} {t0 : Nat} {cB : GX → ClassId} (h0 : c ≠ 7) (eb : (miT m).2.1 = cc) (hd : decode cc pc = .ok (.newarray at0, 2)) (hw : Cond.arrayClass (newarray.typeOf at0) ∈ lw_all) (hty : newarray.typeOf at0 = ty) (ht : ∀ G, (tysG G)[t0]? = some (cB G, ty)) (hp : ∀ s c, va_RA s c ty → s.vm.findClass ("[" ++ ty.toString) = some c) (hby : componentBytes ty ≤ 8)
    (a0 : Nat → vp_A) (ha : ∀ (n : Nat) (cA : ClassId), vp_cell cA (a0 n) = arrV cA n (fun _ => defaultValue ty)) (hE : ∀ (G : GX) (loc : Nat → Nat) (h : HP) (n : Nat), EE G loc (hnew h c n n) (hsz h) = .inl (cB G, a0 n)) : SS l m pc (op_na c (pc + 2)) := by
  intro d ls st h Q C' K' T' hC hK hT H
  unfold op_na at H
  split at H
  · rename_i n r
    obtain ⟨hn, hb, H⟩ := H
    obtain ⟨o, h', hs, hq⟩ := hK _ _ _ _ (H _ _ rfl rfl)
    refine ⟨o, h', SM.new hs h0 (fun z => vokL_t z) ?_, hq⟩
    intro p e s mm args below meth c0 G F R QQ loc HH locs cells slots la hr hS v2 hz hcells hslots kk
    refine va_newa F.1 (F.2.1.trans eb) (F.hts _ hw) hty F.kf.1 hr.P hr.D hS F.2.2.2.2.2.2.2.2.2.2 (ha n.toNatClampNeg) hn rfl ?_ hcells hslots hd ?_
    · exact Nat.le_trans (Nat.mul_le_mul hb hby) (by decide)
    · intro q cA H1 hK1 hP hD hS1
      have e : cA = cB G := arr_cls (G := G) hK1 (ht G) (hp s)
      subst e
      exact kk q H1 _ (hE G _ h _).symm hP hD hS1
  · exact H.elim
theorem ai_new {h : HP} {c n k : Nat} : aI (hnew h c n k) (hsz h) = fun _ => 0 := up1_eq
theorem aj_new {h : HP} {c n k : Nat} : aJ (hnew h c n k) (hsz h) = fun _ => 0 := up1_eq
theorem ln_new {h : HP} {c n k : Nat} : hlen (hnew h c n k) (hsz h) = n := up1_eq
theorem cl_new {h : HP} {c n k : Nat} : hcls (hnew h c n k) (hsz h) = c := up1_eq
theorem ss_na1 (eb : (miT m).2.1 = cc) (hd : decode cc pc = .ok (.newarray .int, 2)) (hw : Cond.arrayClass .int ∈ lw_all) : SS l m pc (op_na 1 (pc + 2)) :=
  ss_na0 (t0 := 0) (cB := fun G => gC G 1) (by decide) eb hd hw rfl (fun _ => rfl) (fun _ _ z => z) (by decide) (fun n => (n, .inl (fun _ => 0))) (fun _ _ => by rw [vp_cell_i]; rfl) (fun G loc h n => by rw [EE_1 cl_new, ai_new, ln_new])
theorem ss_na2 (eb : (miT m).2.1 = cc) (hd : decode cc pc = .ok (.newarray .byte, 2)) (hw : Cond.arrayClass .byte ∈ lw_all) : SS l m pc (op_na 2 (pc + 2)) :=
  ss_na0 (t0 := 1) (cB := fun G => gC G 2) (by decide) eb hd hw rfl (fun _ => rfl) (fun _ _ z => z) (by decide) (fun n => (n, .inl (fun _ => 0))) (fun _ _ => by rw [vp_cell_i]; rfl) (fun G loc h n => by rw [EE_2 cl_new, ai_new, ln_new])
theorem ss_na3 (eb : (miT m).2.1 = cc) (hd : decode cc pc = .ok (.newarray .boolean, 2)) (hw : Cond.arrayClass .boolean ∈ lw_all) : SS l m pc (op_na 3 (pc + 2)) :=
  ss_na0 (t0 := 2) (cB := fun G => gC G 3) (by decide) eb hd hw rfl (fun _ => rfl) (fun _ _ z => z) (by decide) (fun n => (n, .inl (fun _ => 0))) (fun _ _ => by rw [vp_cell_i]; rfl) (fun G loc h n => by rw [EE_3 cl_new, ai_new, ln_new])
theorem ss_na4 (eb : (miT m).2.1 = cc) (hd : decode cc pc = .ok (.newarray .long, 2)) (hw : Cond.arrayClass .long ∈ lw_all) : SS l m pc (op_na 4 (pc + 2)) :=
  ss_na0 (t0 := 3) (cB := fun G => gC G 4) (by decide) eb hd hw rfl (fun _ => rfl) (fun _ _ z => z) (by decide) (fun n => (n, .inr (.inl (fun _ => 0)))) (fun _ _ => by rw [vp_cell_l]; rfl) (fun G loc h n => by rw [EE_4 cl_new, aj_new, ln_new])
end
