/-! SOUND 18: what stays along a call; a callee's contract -/
set_option maxRecDepth 100000
def nk (w : Cond) : Bool := match w with
  | .fieldLinkNest _ _ _ _ _ _ => true
  | .methodLinkNest _ _ _ _ => true
  | .castable _ _ => true
  | .declares _ => true
  | .arrayOver (.array .int) => true
  | _ => false
theorem AOA_moved {u U : State} (hvm : u.vm.Alike U.vm) (h : va_Nw (.arrayOver (.array .int)) u) : va_Nw (.arrayOver (.array .int)) U := by
  obtain ⟨comp, c, k, h1, h2, h3, h4, h5⟩ := arrayOverA_spec h
  obtain ⟨k', hk', he⟩ := hvm.2.2 _ _ h3
  have hi : (U.vm.classes.findIdx? fun (x : Class) => match x.kind with | .array component _ => component == comp | _ => false) = some c := by
    have e1 := va_idx_bare U.vm comp
    have e2 := va_idx_bare u.vm comp
    have e3 : U.vm.bare = u.vm.bare := by first | exact hvm.bare_eq | exact hvm.bare_eq.symm
    rw [e3] at e1
    exact (e1.symm.trans e2).trans h2
  have hkind : k'.kind = .array comp (.array .int) := by rw [he]; exact h4
  have f1 : U.vm.findClass (FieldType.array .int).toString = some comp := by rw [hvm.findClass]; exact h1
  have f2 : U.vm.findClass ("[" ++ (FieldType.array .int).toString) = some c := by rw [hvm.findClass]; exact h5
  unfold va_Nw Cond.before Cond.holds
  simp only [Cond.value]
  rw [f1, Option.bind_some]
  refine (congrArg (fun o : Option Nat => (o.bind (fun c => (U.vm.classes[c]?).map fun (k : Class) => match k.kind with | .array _ ty => decide (ty = FieldType.array .int) && decide (U.vm.findClass ("[" ++ (FieldType.array .int).toString) = some c) | _ => false) == some true)) hi).trans ?_
  simp [hk', hkind, f2]
theorem nwT_nk : ∀ w ∈ nwT, nk w = true := List.all_eq_true.mp (show nwT.all nk = true by decide +kernel)
theorem nw_warm {w : Cond} (hk : nk w = true) {s U : State} (hW : s.WarmedH U.vm) (h : va_Nw w s) : va_Nw w U := by
  unfold nk at hk
  split at hk
  · exact va_Nw.warmF hW h
  · exact va_Nw.warmM hW h
  · exact va_Nw.warmC hW h
  · exact va_Nw.warmD hW h
  · exact AOA_moved hW.alike h
  · cases hk
theorem KF.move {G : GX} {s U : State} {H : Heap} {locs : List Loc} (hk : KF G s s.heap) (hW : s.WarmedH U.vm) (hS : va_S (gA G) s.heap H locs) : KF G U H := by
  obtain ⟨k1, k2, k3, k4, k5, k6, k7, k8, k9, ⟨z1, z2⟩, adK, adV, k10, k11, k12⟩ := hk
  have ha := hW.alike
  exact ⟨k1.moved ha, fun w hw => nw_warm (nwT_nk w hw) hW (k2 w hw), fun q hq => (k3 q hq).moved ha, k4.moved ha, (k5.moved ha).kept hS.2.1, (k6.moved ha).kept hS.2.1, (k7.moved ha).kept (hS.2.1 _ k8 k9), Nat.lt_of_lt_of_le k8 hS.1, k9, ⟨(z1.moved ha).kept hS.2.1, (z2.moved ha).kept hS.2.1⟩, adK, adV, k10, (k11.moved ha).kept hS.2.1, fun q hq => (k12 q hq).warm hW⟩
/-! the locals at the entry -/
theorem prs_nulls {G : GX} {loc : Nat → Nat} : ∀ (n k : Nat), prs G loc k (lpad n []) = []
  | 0, _ => rfl
  | n + 1, k => prs_nulls n (k + 1)
theorem cv_cat1 {G : GX} {loc : Nat → Nat} {v : Value} (hv : vpl v) (hl : ¬ ∃ x, v = .long x) : (cv G loc v).category ≠ 2 := by
  intro e
  have e := cv_cat e
  cases v <;> first | exact hv | exact hl ⟨_, rfl⟩ | (simp [Value.category] at e; done)
theorem lspr_c {v : Value} {t : List Value} (hl : ¬ ∃ x, v = .long x) : lspr (v :: t) = v :: lspr t := by
  cases v <;> first | rfl | exact absurd ⟨_, rfl⟩ hl
theorem prs_entry {G : GX} {loc : Nat → Nat} : ∀ (as : List Value) (n k : Nat), (∀ v ∈ as, vpl v) → ∀ q ∈ prs G loc k (lpad n (lspr as)), q ∈ lv_args k (as.map (cv G loc))
  | [], n, k, _, q, h => by
    rw [show lspr [] = [] from rfl, prs_nulls] at h
    cases h
  | v :: t, n, k, hv, q, h => by
    have ht : ∀ w ∈ t, vpl w := fun w hw => hv w (List.mem_cons_of_mem _ hw)
    have hv0 := hv v List.mem_cons_self
    show q ∈ (k, cv G loc v) :: lv_args (if (cv G loc v).category = 2 then k + 2 else k + 1) (t.map (cv G loc))
    by_cases hl : ∃ x, v = .long x
    · obtain ⟨x, rfl⟩ := hl
      rw [if_pos (show (cv G loc (Value.long x)).category = 2 from rfl)]
      cases n with
      | zero => cases h
      | succ n =>
        rw [show lspr (.long x :: t) = .long x :: .null :: lspr t from rfl, show lpad (n + 1) (.long x :: .null :: lspr t) = .long x :: lpad n (.null :: lspr t) from rfl, prs_cons] at h
        rcases h with h | h
        · rw [h.2]; exact List.mem_cons_self
        · cases n with
          | zero => cases h
          | succ n =>
            rw [show lpad (n + 1) (Value.null :: lspr t) = .null :: lpad n (lspr t) from rfl, prs_cons] at h
            rcases h with h | h
            · exact absurd rfl h.1
            · exact List.mem_cons_of_mem _ (prs_entry t n _ ht q h)
    · rw [if_neg (cv_cat1 hv0 hl)]
      cases n with
      | zero => cases h
      | succ n =>
        rw [lspr_c hl, show lpad (n + 1) (v :: lspr t) = v :: lpad n (lspr t) from rfl, prs_cons] at h
        rcases h with h | h
        · rw [h.2]; exact List.mem_cons_self
        · exact List.mem_cons_of_mem _ (prs_entry t n _ ht q h)
theorem lg_len {G : GX} {loc : Nat → Nat} : ∀ (as : List Value), (∀ v ∈ as, vpl v) → (lg_sl (as.map (cv G loc))).length = (lspr as).length
  | [], _ => rfl
  | v :: t, hv => by
    have ht := lg_len (G := G) (loc := loc) t fun w hw => hv w (List.mem_cons_of_mem _ hw)
    have e : lg_sl ((v :: t).map (cv G loc)) = (if (cv G loc v).category = 2 then [.val (cv G loc v), .second] else [.val (cv G loc v)]) ++ lg_sl (t.map (cv G loc)) := rfl
    rw [e, List.length_append, ht]
    by_cases hl : ∃ x, v = .long x
    · obtain ⟨x, rfl⟩ := hl
      rw [if_pos (show (cv G loc (Value.long x)).category = 2 from rfl)]
      show 2 + _ = (lspr t).length + 1 + 1
      omega
    · rw [if_neg (cv_cat1 (hv v List.mem_cons_self) hl), lspr_c hl]
      show 1 + _ = (lspr t).length + 1
      omega
theorem lpad_len : ∀ (n : Nat) (l : List Value), (lpad n l).length = n
  | 0, _ => rfl
  | n + 1, [] => by simp [lpad, lpad_len n []]
  | n + 1, _ :: t => by simp [lpad, lpad_len n t]
theorem lpad_mem {v : Value} : ∀ (n : Nat) (l : List Value), v ∈ lpad n l → v = .null ∨ v ∈ l
  | 0, _, h => by cases h
  | n + 1, [], h => by
    rcases List.mem_cons.mp h with e | e
    · exact Or.inl e
    · exact lpad_mem n [] e
  | n + 1, w :: t, h => by
    rcases List.mem_cons.mp h with e | e
    · exact Or.inr (e ▸ List.mem_cons_self)
    · exact (lpad_mem n t e).imp id (List.mem_cons_of_mem _)
theorem lspr_mem {v : Value} : ∀ (l : List Value), v ∈ lspr l → v = .null ∨ v ∈ l
  | [], h => by cases h
  | w :: t, h => by
    by_cases hl : ∃ x, w = .long x
    · obtain ⟨x, rfl⟩ := hl
      rcases List.mem_cons.mp h with e | e
      · exact Or.inr (e ▸ List.mem_cons_self)
      · rcases List.mem_cons.mp e with e | e
        · exact Or.inl e
        · exact (lspr_mem t e).imp id (List.mem_cons_of_mem _)
    · rw [lspr_c hl] at h
      rcases List.mem_cons.mp h with e | e
      · exact Or.inr (e ▸ List.mem_cons_self)
      · exact (lspr_mem t e).imp id (List.mem_cons_of_mem _)
theorem vokL_entry {h : HP} {as : List Value} (hv : vokL h as) (n : Nat) : vokL h (lpad n (lspr as)) := by
  intro v hm
  rcases lpad_mem _ _ hm with e | e
  · subst e; trivial
  · rcases lspr_mem _ e with e | e
    · subst e; trivial
    · exact hv v e
/-! a callee's contract -/
def wsM (k : MI) : List Cond := match k.2.2.2.2 with
  | [] => ws_ k.1 k.2.1 k.2.2.1 k.2.2.2.1
  | q :: t => wsW_ k.1 k.2.1 k.2.2.1 k.2.2.2.1 (q :: t)
def PcC (s : State) (H : Heap) (as : List Value) : Array Value → State → Prop := fun a U => a = as.toArray ∧ U.heap = H ∧ s.WarmedH U.vm
theorem PcC_blind (s : State) (H : Heap) (as : List Value) : FrameBlind (PcC s H as) := fun _ _ _ _ h => h
/-- as vx_ofW and vx_ofWH, for a class some of whose other methods are the machine's own -/
theorem vx_ofWF {l : Launch} {y : MethodName} {ws ws' : List Cond} {rm : Room} {Pc : Array Value → State → Prop} {Qc : Array Value → State → Outcome → State → Prop} {XC : String → Addr → State → State → Prop} {mc ms : Nat} {free : Addr → Prop} {cc : ByteArray} {maxL : Nat} {ret : Option FieldType}
    (hy : plainFor y = true) (hw : ws = Cond.code y cc maxL ret :: ws')
    (body : ∀ p e s m args below meth c s₁, BodyLoose p l y (headSpec ws rm) cc maxL ret e s m args below meth c s₁ → c.maxLocals = maxL → (∀ x ∈ c.exceptionTable.toList, False) → Pc args s →
      W p l e (headSpec ws rm).room s m args below meth c s.heap [] 0 0 (vx_MQ below Qc XC args s mc ms free) (entryFrame m args maxL)) : vx_Met l y ws rm Pc Qc XC mc ms free := by
  refine MetFree.of_bodySF (code := cc) (maxLocals := maxL) (ret := ret) hy ?_ ?_
  · intro args s m h hn
    obtain ⟨meth, c, h1, h2, h3, h4, h5, h6, -, -⟩ := Cond.code_spec hn (atoms_spec (ws := ws) h _ (by rw [hw]; exact List.mem_cons_self))
    exact ⟨meth, c, h1, h2, h3, h4, h5, h6⟩
  · intro p e s m args below meth c s₁ B hml hP _
    have hh0 : s₁.heap = s.heap := by rw [B.state]; rfl
    have ht : ∀ x ∈ c.exceptionTable.toList, False := by
      obtain ⟨meth9, c9, h1, h2, -, -, -, -, h7, -⟩ := Cond.code_spec B.named (atoms_spec (ws := ws) B.pre _ (by rw [hw]; exact List.mem_cons_self))
      cases Option.some.inj (h1.symm.trans B.method)
      cases Option.some.inj (h2.symm.trans (Stand.of_body B).code)
      intro x hx
      rw [Array.isEmpty_iff.mp h7] at hx
      cases hx
    obtain ⟨t, a1, o, b1, b2, b3⟩ := body p e s m args below meth c s₁ B hml ht hP s₁ hh0 (Stand.of_body B)
    exact ⟨t, o, a1, b1, b2, b3⟩
theorem vx_ofWHF {l : Launch} {y : MethodName} {ws ws' : List Cond} {rm : Room} {Pc : Array Value → State → Prop} {Qc : Array Value → State → Outcome → State → Prop} {XC : String → Addr → State → State → Prop} {mc ms : Nat} {free : Addr → Prop} {cc : ByteArray} {maxL : Nat} {ret : Option FieldType} {hh : List (Nat × Nat × Nat × Nat)}
    (hy : plainFor y = true) (hw : ws = Cond.codeWith y cc maxL ret hh :: ws')
    (body : ∀ p e s m args below meth c s₁, BodyLoose p l y (headSpec ws rm) cc maxL ret e s m args below meth c s₁ → c.maxLocals = maxL → Pc args s →
      W p l e (headSpec ws rm).room s m args below meth c s.heap [] 0 0 (vx_MQ below Qc XC args s mc ms free) (entryFrame m args maxL)) : vx_Met l y ws rm Pc Qc XC mc ms free := by
  refine MetFree.of_bodySF (code := cc) (maxLocals := maxL) (ret := ret) hy ?_ ?_
  · intro args s m h hn
    obtain ⟨m9, meth, c, hn9, h1, h2, h3, h4, -, h5, h6, -⟩ := Cond.codeWith_spec (atoms_spec (ws := ws) h _ (by rw [hw]; exact List.mem_cons_self))
    cases hn.symm.trans hn9
    exact ⟨meth, c, h1, h2, h3, h4, h5, h6⟩
  · intro p e s m args below meth c s₁ B hml hP _
    have hh0 : s₁.heap = s.heap := by rw [B.state]; rfl
    obtain ⟨t, a1, o, b1, b2, b3⟩ := body p e s m args below meth c s₁ B hml hP s₁ hh0 (Stand.of_body B)
    exact ⟨t, o, a1, b1, b2, b3⟩
section
variable {l : Launch} {k : MI} {d : Nat} {as : List Value} {h h' : HP} {o : AO} {s : State} {H : Heap} {locs : List Loc} {G : GX} {loc : Nat → Nat}
theorem SM.body (hm : SM l k d 0 (lpad k.2.2.1 (lspr as)) [] h o h') (hz : hsz h' ≤ strB) (hle : (lspr as).length ≤ k.2.2.1) (hv : vokL h as) (hr : HR G loc h H)
    {p : Program} {e : Env} {s' : State} {m : MethodId} {args : Array Value} {below : List Frame} {meth : Method} {c : Code} (F : FX k p s' m args meth c G) (hP : PcC s H (as.map (cv G loc)) args s') :
    W p l e (RM d (hnc h' - hnc h) (hns h' - hns h)) s' m args below meth c s'.heap [] 0 0 (vx_MQ below (QC G loc (hsz h) o h') (XC G loc (hsz h) o h') args s' (hnc h' - hnc h) (hns h' - hns h) (gA G)) (entryFrame m args k.2.2.1) := by
  obtain ⟨ha, hH, -⟩ := hP
  subst ha
  subst hH
  rw [lg_entry_eq]
  have hpl : ∀ v ∈ as, vpl v := fun v hm => (hv v hm).pl
  have hw := (hm.2 hz).2 p e s' m _ below meth c G F loc s'.heap [] 0 0 _ hr va_S.rf (lpad_len _ _) (vokL_entry hv _) (fun _ z => by cases z) (lv_fewer (lv_entry (as.map (cv G loc)) (n := k.2.2.1) (by rw [lg_len as hpl]; exact hle)) (prs_entry as _ 0 hpl))
  rw [Nat.zero_add, Nat.zero_add] at hw
  exact hw
theorem SM.met (hm : SM l k d 0 (lpad k.2.2.1 (lspr as)) [] h o h') (hz : hsz h' ≤ strB) (hy : plainFor k.1 = true) (hle : (lspr as).length ≤ k.2.2.1) (hv : vokL h as)
    (hk : KF G s s.heap) (hA : ∀ q, s.heap.size ≤ q → gA G q) (hS : va_S (gA G) s.heap H locs) (hr : HR G loc h H) :
    vx_Met l k.1 (wsM k) (RM d (hnc h' - hnc h) (hns h' - hns h)) (PcC s H (as.map (cv G loc))) (QC G loc (hsz h) o h') (XC G loc (hsz h) o h') (hnc h' - hnc h) (hns h' - hns h) (gA G) := by
  obtain ⟨y, cc, maxL, ret, hh⟩ := k
  cases hh with
  | nil =>
    refine vx_ofWF (cc := cc) (maxL := maxL) (ret := ret) hy rfl ?_
    intro p e s' m args below meth c s₁ B hml ht hP
    have hts : ∀ w ∈ ws_ y cc maxL ret, w.before args s' = true := atoms_spec (ws := ws_ y cc maxL ret) B.pre
    refine SM.body hm hz hle hv hr ⟨B.exec, B.bytes, hml, findClass_of_methodNamed B.named, fun w h => hts w (List.mem_cons_of_mem _ h), B.returns, B.notSynchronized, (name_of_methodNamed B.named B.method).1, List.eq_nil_iff_forall_not_mem.mpr ht, ?_, ?_⟩ hP
    · have := hk.move hP.2.2 hS
      rw [← hP.2.1] at this
      exact this
    · intro q hq
      rw [hP.2.1] at hq
      exact hA q (Nat.le_trans hS.1 hq)
  | cons q0 t0 =>
    refine vx_ofWHF (cc := cc) (maxL := maxL) (ret := ret) (hh := q0 :: t0) hy rfl ?_
    intro p e s' m args below meth c s₁ B hml hP
    have hts : ∀ w ∈ wsW_ y cc maxL ret (q0 :: t0), w.before args s' = true := atoms_spec (ws := wsW_ y cc maxL ret (q0 :: t0)) B.pre
    refine SM.body hm hz hle hv hr ⟨B.exec, B.bytes, hml, findClass_of_methodNamed B.named, fun w h => hts w (List.mem_cons_of_mem _ h), B.returns, B.notSynchronized, (name_of_methodNamed B.named B.method).1, vx_table (x := y) B (hts _ List.mem_cons_self), ?_, ?_⟩ hP
    · have := hk.move hP.2.2 hS
      rw [← hP.2.1] at this
      exact this
    · intro q hq
      rw [hP.2.1] at hq
      exact hA q (Nat.le_trans hS.1 hq)
end
