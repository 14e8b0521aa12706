/-! SOUND 7: fields written -/
set_option maxRecDepth 100000
/-- h1 is h but for field f of cell a -/
def OnlyF (h h1 : HP) (f a : Nat) : Prop := hcls h1 = hcls h ∧ hlen h1 = hlen h ∧ aI h1 = aI h ∧ aJ h1 = aJ h ∧ aR h1 = aR h ∧ hsz h1 = hsz h ∧ hnc h1 = hnc h ∧ hns h1 = hns h ∧
  ∀ g b, ¬ (g = f ∧ b = a) → fI h1 g b = fI h g b ∧ fJ h1 g b = fJ h g b ∧ fR h1 g b = fR h g b
theorem OnlyF.pI (h : HP) (f a : Nat) (v : Int32) : OnlyF h (pI h f a v) f a := by
  refine ⟨rfl, rfl, rfl, rfl, rfl, rfl, rfl, rfl, fun g b e => ⟨?_, rfl, rfl⟩⟩
  show up2 (fI h) f a v g b = fI h g b
  unfold up2 up1
  by_cases h1 : g = f
  · subst h1
    have h2 : b ≠ a := fun z => e ⟨rfl, z⟩
    simp [h2]
  · simp [h1]
theorem OnlyF.pJ (h : HP) (f a : Nat) (v : Int64) : OnlyF h (pJ h f a v) f a := by
  refine ⟨rfl, rfl, rfl, rfl, rfl, rfl, rfl, rfl, fun g b e => ⟨rfl, ?_, rfl⟩⟩
  show up2 (fJ h) f a v g b = fJ h g b
  unfold up2 up1
  by_cases h1 : g = f
  · subst h1
    have h2 : b ≠ a := fun z => e ⟨rfl, z⟩
    simp [h2]
  · simp [h1]
theorem OnlyF.pR (h : HP) (f a : Nat) (v : Nat) : OnlyF h (pR h f a v) f a := by
  refine ⟨rfl, rfl, rfl, rfl, rfl, rfl, rfl, rfl, fun g b e => ⟨rfl, rfl, ?_⟩⟩
  show up2 (fR h) f a v g b = fR h g b
  unfold up2 up1
  by_cases h1 : g = f
  · subst h1
    have h2 : b ≠ a := fun z => e ⟨rfl, z⟩
    simp [h2]
  · simp [h1]
theorem OnlyF.fvq {h h1 : HP} {f a : Nat} (e : OnlyF h h1 f a) {G : GX} {loc : Nat → Nat} {b : Nat} {q : Nat × Nat} (hn : ¬ (q.2 = f ∧ b = a)) : fv G loc h1 b q = fv G loc h b q := by
  obtain ⟨h1, h2, h3⟩ := e.2.2.2.2.2.2.2.2 q.2 b hn
  unfold fv
  rw [h1, h2, h3]
theorem OnlyF.eeq {h h1 : HP} {f a : Nat} (e : OnlyF h h1 f a) {G : GX} {loc : Nat → Nat} {b : Nat} (hb : b ≠ a) : EE G loc h1 b = EE G loc h b := by
  unfold EE
  obtain ⟨e1, e2, e3, e4, e5, e6⟩ := e
  rw [e1, e2, e3, e4, e5]
  split <;> first | rfl | skip
  congr 2
  refine List.map_congr_left fun q _ => ?_
  exact OnlyF.fvq ⟨e1, e2, e3, e4, e5, e6⟩ (fun z => hb z.2)
theorem fl_set {h h1 : HP} {f a : Nat} (e : OnlyF h h1 f a) {G : GX} {loc : Nat → Nat} {L : List (Nat × Nat)} {k kd : Nat} {v : Value} (hk : L[k]? = some (kd, f)) (hnd : va_nd (L.map (·.2)) = true) (hv : fv G loc h1 a (kd, f) = v) : (L.map (fv G loc h a)).set k v = L.map (fv G loc h1 a) := by
  refine List.ext_getElem? fun j => ?_
  have hl : k < (L.map (fv G loc h a)).length := by rw [List.length_map]; exact (List.getElem?_eq_some_iff.mp hk).1
  by_cases hj : j = k
  · subst hj
    rw [List.getElem?_set_self hl, List.getElem?_map, hk, Option.map_some, hv]
  · rw [List.getElem?_set_ne (Ne.symm hj), List.getElem?_map, List.getElem?_map]
    cases hq : L[j]? with
    | none => rfl
    | some q =>
      rw [Option.map_some, Option.map_some]
      congr 1
      refine (e.fvq fun z => hj ?_).symm
      exact va_nd_inj _ hnd j k f (by rw [List.getElem?_map, hq, Option.map_some, z.1]) (by rw [List.getElem?_map, hk]; rfl)
/-- the field f (kind kd, type ty) of the class c, that the method m may write -/
def PF (m : Nat) (own ref host : String) (idx kd f : Nat) (ty : FieldType) (c : Nat) : Prop := ∃ (C : String) (T : u_T) (N k : Nat) (ty0 : Nat → FieldType), 7 < c ∧ clT[clI c]? = some (C, T, N) ∧ (∀ w ∈ u_ws C T N, w ∈ lw_all) ∧
  (∀ k, k < N → parseFieldDescriptor (T k).2.2.1 = some (ty0 k)) ∧ (∀ a, a < N → ∀ b, b < N → a ≠ b → (T a).2.1 ≠ (T b).2.1) ∧ k < N ∧ (flT c)[k]? = some (kd, f) ∧ va_nd ((flT c).map (·.2)) = true ∧
  ((Cond.fieldLink own idx ref (T k).2.1 (T k).2.2.1 ∈ lw_all ∧ (T k).2.2.2 = false) ∨ (Cond.fieldLinkNest own idx ref (T k).2.1 (T k).2.2.1 host ∈ nwT ∧ (T k).2.2.2 = false) ∨ (Cond.fieldLink own idx ref (T k).2.1 (T k).2.2.1 ∈ lw_all ∧ (T k).2.2.2 = true ∧ (miT m).1.name = "<init>" ∧ (T k).1 = own)) ∧
  (T k).1 = ref ∧ parseFieldDescriptor (T k).2.2.1 = some ty
section
variable {l : Launch} {m pc : Nat} {cc : ByteArray}
theorem ss_put0 {f idx kd : Nat} {own ref host : String} {ty : FieldType} {g : SF} (eb : (miT m).2.1 = cc) (eo : (miT m).1.cls = own) (hd : decode cc pc = .ok (.putfield idx, 3))
    (hg : ∀ C' K' T' ls st h, g C' K' T' ls st h → ∃ (a : Nat) (r : List Value) (v : Value) (h1 : HP) (c : Nat), st = v :: .ref a :: r ∧ hcls h a = c ∧ PF m own ref host idx kd f ty c ∧ K' (pc + 3) ls r h1 ∧ OnlyF h h1 f a ∧ (HC h → vok h v → ∀ b, rok h (fR h1 f b)) ∧
      ∀ (G : GX) (loc : Nat → Nat), vok h v → hsz h ≤ strB → fv G loc h1 a (kd, f) = cv G loc v ∧ narrow ty (cv G loc v) = cv G loc v ∧ fits ty (cv G loc v) = true) : SS l m pc g := by
  intro d ls st h Q C' K' T' hC hK hT H
  obtain ⟨a, r, v, h1, c, rfl, ha, ⟨C, T, N, k, ty0, hc, hcl, hin, hty, hnm, hk, hf, hnd, hlink, hsame, hpd⟩, hk', hO, hrf, hv2⟩ := hg _ _ _ _ _ _ H
  obtain ⟨o, h', hs, hq⟩ := hK _ _ _ _ hk'
  have hHC : HC h → vok h v → HC h1 := by
    rintro ⟨q1, q2, q3, q4⟩ hv
    obtain ⟨e1, e2, e3, e4, e5, e6, e7, e8, e9⟩ := hO
    have er : ∀ x, rok h x → rok h1 x := fun x hx => by unfold rok at hx ⊢; rw [e6]; exact hx
    refine ⟨fun g b => ?_, fun b i => ?_, fun b hb => ?_, by rw [e6]; exact q4⟩
    · refine er _ ?_
      by_cases z : g = f
      · subst z; exact hrf ⟨q1, q2, q3, q4⟩ hv b
      · rw [(e9 g b (fun w => z w.1)).2.2]; exact q1 g b
    · rw [e5]; exact er _ (q2 b i)
    · rw [e1] at hb; rw [e6]; exact q3 b hb
  refine ⟨o, h', SM.put hs hO.2.2.2.2.2.2.1 hO.2.2.2.2.2.2.2.1 hO.2.2.2.2.2.1 (fun z b => ⟨vokL_t (vokL_t b), hHC z (vokL_h b)⟩) ?_, hq⟩
  intro p e s mm args below meth c0 G F R QQ loc HH locs cells slots la hr hS v2 hz kk
  obtain ⟨hat, hA, ha0, ha1⟩ := hr.at ha (by omega) (by omega)
  obtain ⟨x1, x2, x3⟩ := hv2 G loc (vokL_h v2) hz
  obtain ⟨j, hj, hj2⟩ := wsA_at (G := G) (loc := loc) (mem_lvc.mpr ⟨ha1, ha0, by rw [ha]; omega⟩)
  rw [EE_obj ha hc] at hj2
  have e1 : cv G loc (.ref a) = .ref (loc a) := cr_loc ha0 ha1 hz
  have hown : s.vm.findClass own = some mm.cls := by rw [← eo]; exact F.2.2.2.1
  have hlen : k < ((flT c).map (fv G loc h a)).length := by rw [List.length_map]; exact (List.getElem?_eq_some_iff.mp hf).1
  have hfl := fl_set hO (G := G) (loc := loc) hf hnd x1
  have ha' : hcls h1 a = c := by rw [hO.1]; exact ha
  have fin : ∀ (H1 : Heap) (locs1 : List Loc), va_P (gD G) clT ((wsA G loc h).set j (loc a, .inr (clI c, ((flT c).map (fv G loc h a)).set k (cv G loc v)))) H1 → va_S (gA G) s.heap H1 locs1 → W p l e R s mm args below meth c0 H1 locs1 cells slots QQ (F0 mm (pc + 3) la (r.map (cv G loc))) := by
    intro H1 locs1 hP hS1
    refine kk H1 locs1 (hr.set hj hO.1 hO.2.2.2.2.2.1 (hHC hr.1 (vokL_h v2)) (fun b hb => OnlyF.eeq hO hb) (fun b _ => ⟨by rw [hO.2.1], by rw [hO.2.2.1]⟩) ?_) hS1
    rw [EE_obj ha' hc, ← hfl]
    exact hP
  simp only [List.map_cons, e1]
  rcases hlink with ⟨hlink, hfin⟩ | ⟨hlink, hfin⟩ | ⟨hlink, hfin, hinit, hdecl⟩
  · exact va_put F.1 (F.2.1.trans eb) F.hts hin ty0 hty hnm hown F.kf.1 hr.P hr.D hS j hj2 hcl k hk (F.hts _ hlink) (by rw [hsame]; exact fun _ z => z) hfin hpd x2 x3 hlen hd (fun H1 locs1 hP _ hS1 => fin H1 locs1 hP hS1)
  · exact va_putN F.1 (F.2.1.trans eb) F.hts hin ty0 hty hnm hown F.kf.1 hr.P hr.D hS j hj2 hcl k hk (va_Nw.use rfl (F.kf.2.1 _ hlink)) (by rw [hsame]; exact fun _ z => z) hfin hpd x2 x3 hlen hd (fun H1 locs1 hP _ hS1 => fin H1 locs1 hP hS1)
  · exact va_putF F.1 (F.2.1.trans eb) F.hts hin ty0 hty hnm hown F.kf.1 hr.P hr.D hS j hj2 hcl k hk (F.hts _ hlink) (by rw [hsame]; exact fun _ z => z) hfin (F.name.trans hinit) hdecl hpd x2 x3 hlen hd (fun H1 locs1 hP _ hS1 => fin H1 locs1 hP hS1)
theorem ss_putI {c f idx : Nat} {own ref host : String} (eb : (miT m).2.1 = cc) (eo : (miT m).1.cls = own) (hd : decode cc pc = .ok (.putfield idx, 3)) (hF : PF m own ref host idx 0 f .int c) : SS l m pc (op_pI c f (pc + 3)) := by
  refine ss_put0 (f := f) (kd := 0) (ref := ref) (host := host) (ty := .int) eb eo hd fun C' K' T' ls st h H => ?_
  unfold op_pI at H
  split at H
  · exact ⟨_, _, _, _, _, rfl, H.1, hF, H.2 _ rfl, OnlyF.pI _ _ _ _, fun z _ b => z.1 _ b, fun _ _ _ _ => ⟨by simp [fv, fI, pI, up2, up1, cv], rfl, rfl⟩⟩
  · exact H.elim
theorem ss_putZ {c f idx : Nat} {own ref host : String} (eb : (miT m).2.1 = cc) (eo : (miT m).1.cls = own) (hd : decode cc pc = .ok (.putfield idx, 3)) (hF : PF m own ref host idx 0 f .boolean c) : SS l m pc (op_pZ c f (pc + 3)) := by
  refine ss_put0 (f := f) (kd := 0) (ref := ref) (host := host) (ty := .boolean) eb eo hd fun C' K' T' ls st h H => ?_
  unfold op_pZ at H
  split at H
  · exact ⟨_, _, _, _, _, rfl, H.1, hF, H.2.2 _ rfl, OnlyF.pI _ _ _ _, fun z _ b => z.1 _ b, fun _ _ _ _ => ⟨by simp [fv, fI, pI, up2, up1, cv], nar_z H.2.1, by rcases H.2.1 with e | e <;> rw [e] <;> rfl⟩⟩
  · exact H.elim
theorem ss_putJ {c f idx : Nat} {own ref host : String} (eb : (miT m).2.1 = cc) (eo : (miT m).1.cls = own) (hd : decode cc pc = .ok (.putfield idx, 3)) (hF : PF m own ref host idx 1 f .long c) : SS l m pc (op_pJ c f (pc + 3)) := by
  refine ss_put0 (f := f) (kd := 1) (ref := ref) (host := host) (ty := .long) eb eo hd fun C' K' T' ls st h H => ?_
  unfold op_pJ at H
  split at H
  · exact ⟨_, _, _, _, _, rfl, H.1, hF, H.2 _ rfl, OnlyF.pJ _ _ _ _, fun z _ b => z.1 _ b, fun _ _ _ _ => ⟨by simp [fv, fJ, pJ, up2, up1, cv], rfl, rfl⟩⟩
  · exact H.elim
theorem ss_putIs {cs : List Nat} {f idx : Nat} {own ref host : String} (eb : (miT m).2.1 = cc) (eo : (miT m).1.cls = own) (hd : decode cc pc = .ok (.putfield idx, 3)) (hF : ∀ c ∈ cs, PF m own ref host idx 0 f .int c) : SS l m pc (op_pIs cs f (pc + 3)) := by
  refine ss_put0 (f := f) (kd := 0) (ref := ref) (host := host) (ty := .int) eb eo hd fun C' K' T' ls st h H => ?_
  unfold op_pIs at H
  split at H
  · exact ⟨_, _, _, _, _, rfl, rfl, hF _ (List.contains_iff_mem.mp H.1), H.2 _ rfl, OnlyF.pI _ _ _ _, fun z _ b => z.1 _ b, fun _ _ _ _ => ⟨by simp [fv, fI, pI, up2, up1, cv], rfl, rfl⟩⟩
  · exact H.elim
theorem ss_putZs {cs : List Nat} {f idx : Nat} {own ref host : String} (eb : (miT m).2.1 = cc) (eo : (miT m).1.cls = own) (hd : decode cc pc = .ok (.putfield idx, 3)) (hF : ∀ c ∈ cs, PF m own ref host idx 0 f .boolean c) : SS l m pc (op_pZs cs f (pc + 3)) := by
  refine ss_put0 (f := f) (kd := 0) (ref := ref) (host := host) (ty := .boolean) eb eo hd fun C' K' T' ls st h H => ?_
  unfold op_pZs at H
  split at H
  · exact ⟨_, _, _, _, _, rfl, rfl, hF _ (List.contains_iff_mem.mp H.1), H.2.2 _ rfl, OnlyF.pI _ _ _ _, fun z _ b => z.1 _ b, fun _ _ _ _ => ⟨by simp [fv, fI, pI, up2, up1, cv], nar_z H.2.1, by rcases H.2.1 with e | e <;> rw [e] <;> rfl⟩⟩
  · exact H.elim
theorem nar_ref {ty : FieldType} (ht : (∃ n, ty = .object n) ∨ ∃ t, ty = .array t) (G : GX) (loc : Nat → Nat) (a : Nat) : narrow ty (cr G loc a) = cr G loc a ∧ fits ty (cr G loc a) = true := by
  rcases cr_cases G loc a with ⟨-, e⟩ | ⟨-, q, e⟩ <;> rcases ht with ⟨n, rfl⟩ | ⟨t, rfl⟩ <;> rw [e] <;> exact ⟨rfl, rfl⟩
theorem ss_putR {c f idx : Nat} {own ref host : String} {ty : FieldType} (ht : (∃ n, ty = .object n) ∨ ∃ t, ty = .array t) (eb : (miT m).2.1 = cc) (eo : (miT m).1.cls = own) (hd : decode cc pc = .ok (.putfield idx, 3)) (hF : PF m own ref host idx 2 f ty c) : SS l m pc (op_pR c f (pc + 3)) := by
  refine ss_put0 (f := f) (kd := 2) (ref := ref) (host := host) (ty := ty) eb eo hd fun C' K' T' ls st h H => ?_
  unfold op_pR at H
  split at H
  · rename_i v a r
    refine ⟨_, _, _, _, _, rfl, H.1, hF, H.2 _ rfl, OnlyF.pR _ _ _ _, fun z hv b => ?_, fun G loc _ _ => ⟨by simp [fv, fR, pR, up2, up1, cv], nar_ref ht G loc _⟩⟩
    show rok h (up2 (fR h) f a v f b)
    unfold up2 up1
    by_cases e : b = a
    · simp [e]; exact hv
    · simp [e]; exact z.1 f b
  · exact H.elim
end
