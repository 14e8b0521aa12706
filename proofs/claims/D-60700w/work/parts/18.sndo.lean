/-! SOUND 24: int[n][k] -/
set_option maxRecDepth 100000
theorem hrows_z (h : HP) (c k : Nat) : ∀ n, hsz (hrows h c k n) = hsz h + n ∧ hnc (hrows h c k n) = hnc h + n ∧ hns (hrows h c k n) = hns h + n * k
  | 0 => ⟨rfl, rfl, by rw [Nat.zero_mul]; rfl⟩
  | n + 1 => by
    obtain ⟨a, b, e⟩ := hrows_z h c k n
    refine ⟨?_, ?_, ?_⟩
    · show hsz (hrows h c k n) + 1 = _; omega
    · show hnc (hrows h c k n) + 1 = _; omega
    · show hns (hrows h c k n) + k = _; rw [e, Nat.succ_mul]; omega
/-- the old cells -/
theorem hrows_o (h : HP) (c k : Nat) {b : Nat} (hb : b < hsz h) : ∀ n, hcls (hrows h c k n) b = hcls h b ∧ hlen (hrows h c k n) b = hlen h b ∧ (∀ f, fI (hrows h c k n) f b = fI h f b) ∧ (∀ f, fJ (hrows h c k n) f b = fJ h f b) ∧ (∀ f, fR (hrows h c k n) f b = fR h f b) ∧ aI (hrows h c k n) b = aI h b ∧ aJ (hrows h c k n) b = aJ h b ∧ aR (hrows h c k n) b = aR h b
  | 0 => ⟨rfl, rfl, fun _ => rfl, fun _ => rfl, fun _ => rfl, rfl, rfl, rfl⟩
  | n + 1 => by
    obtain ⟨a1, a2, a3, a4, a5, a6, a7, a8⟩ := hrows_o h c k hb n
    have hz := (hrows_z h c k n).1
    have e : b ≠ hsz (hrows h c k n) := by omega
    exact ⟨(up1_ne e).trans a1, (up1_ne e).trans a2, fun f => (up1_ne e).trans (a3 f), fun f => (up1_ne e).trans (a4 f), fun f => (up1_ne e).trans (a5 f), (up1_ne e).trans a6, (up1_ne e).trans a7, (up1_ne e).trans a8⟩
/-- the new ones -/
theorem hrows_n (h : HP) (c k : Nat) : ∀ (n : Nat) {b : Nat}, hsz h ≤ b → b < hsz h + n → hcls (hrows h c k n) b = c ∧ hlen (hrows h c k n) b = k ∧ (∀ f, fR (hrows h c k n) f b = 0) ∧ aI (hrows h c k n) b = (fun _ => 0) ∧ aR (hrows h c k n) b = (fun _ => 0)
  | 0, b, h1, h2 => by omega
  | n + 1, b, h1, h2 => by
    have hz := (hrows_z h c k n).1
    by_cases e : b = hsz (hrows h c k n)
    · subst e
      exact ⟨up1_eq, up1_eq, fun _ => up1_eq, up1_eq, up1_eq⟩
    · obtain ⟨a1, a2, a3, a4, a5⟩ := hrows_n h c k n h1 (by omega)
      exact ⟨(up1_ne e).trans a1, (up1_ne e).trans a2, fun f => (up1_ne e).trans (a3 f), (up1_ne e).trans a4, (up1_ne e).trans a5⟩
theorem hrows_hc {h : HP} {c k : Nat} (hc : HC h) : ∀ n, HC (hrows h c k n)
  | 0 => hc
  | n + 1 => (hrows_hc hc n).new
section
variable {h : HP} {n k : Nat}
theorem hnew2_z : hsz (hnew2 h 5 1 n k) = hsz h + 1 + n ∧ hnc (hnew2 h 5 1 n k) = hnc h + 1 + n ∧ hns (hnew2 h 5 1 n k) = hns h + n + n * k := hrows_z (hnew h 5 n n) 1 k n
theorem hnew2_hc (hc : HC h) : HC (hnew2 h 5 1 n k) := by
  obtain ⟨q1, q2, q3, q4⟩ := hrows_hc (c := 1) (k := k) (hc.new (c := 5) (n := n) (k := n)) n
  refine ⟨q1, fun a i => ?_, q3, q4⟩
  show rok _ (up1 (aR (hrows (hnew h 5 n n) 1 k n)) (hsz h) (fun i => if i < n then hsz h + 1 + i else 0) a i)
  by_cases e : a = hsz h
  · subst e
    rw [up1_eq]
    by_cases hi : i < n
    · rw [if_pos hi]
      refine Or.inr (Or.inl ?_)
      rw [hnew2_z.1]
      omega
    · rw [if_neg hi]; exact Or.inl rfl
  · rw [up1_ne e]
    exact q2 a i
theorem hnew2_o {b : Nat} (hb : b < hsz h) : hcls (hnew2 h 5 1 n k) b = hcls h b ∧ hlen (hnew2 h 5 1 n k) b = hlen h b ∧ (∀ f, fI (hnew2 h 5 1 n k) f b = fI h f b) ∧ (∀ f, fJ (hnew2 h 5 1 n k) f b = fJ h f b) ∧ (∀ f, fR (hnew2 h 5 1 n k) f b = fR h f b) ∧ aI (hnew2 h 5 1 n k) b = aI h b ∧ aJ (hnew2 h 5 1 n k) b = aJ h b ∧ aR (hnew2 h 5 1 n k) b = aR h b := by
  obtain ⟨a1, a2, a3, a4, a5, a6, a7, a8⟩ := hrows_o (hnew h 5 n n) 1 k (Nat.lt_succ_of_lt hb) n
  have e : b ≠ hsz h := Nat.ne_of_lt hb
  exact ⟨a1.trans (up1_ne e), a2.trans (up1_ne e), fun f => (a3 f).trans (up1_ne e), fun f => (a4 f).trans (up1_ne e), fun f => (a5 f).trans (up1_ne e), a6.trans (up1_ne e), a7.trans (up1_ne e), (up1_ne e).trans (a8.trans (up1_ne e))⟩
theorem hnew2_s : hcls (hnew2 h 5 1 n k) (hsz h) = 5 ∧ hlen (hnew2 h 5 1 n k) (hsz h) = n ∧ aR (hnew2 h 5 1 n k) (hsz h) = (fun i => if i < n then hsz h + 1 + i else 0) := by
  obtain ⟨a1, a2, -⟩ := hrows_o (hnew h 5 n n) 1 k (show hsz h < hsz (hnew h 5 n n) from Nat.lt_succ_self _) n
  exact ⟨a1.trans up1_eq, a2.trans up1_eq, up1_eq⟩
theorem hnew2_n {b : Nat} (h1 : hsz h + 1 ≤ b) (h2 : b < hsz h + 1 + n) : hcls (hnew2 h 5 1 n k) b = 1 ∧ hlen (hnew2 h 5 1 n k) b = k ∧ aI (hnew2 h 5 1 n k) b = (fun _ => 0) := by
  obtain ⟨a1, a2, -, a4, -⟩ := hrows_n (hnew h 5 n n) 1 k n h1 h2
  exact ⟨a1, a2, a4⟩
theorem EE_new2 {G : GX} {loc loc' : Nat → Nat} {b : Nat} (hc : HC h) (hl : ∀ a, a < hsz h → loc' a = loc a) (hb : b < hsz h) : EE G loc' (hnew2 h 5 1 n k) b = EE G loc h b := by
  obtain ⟨e1, e2, f1, f2, f3, e3, e4, e5⟩ := hnew2_o (n := n) (k := k) hb
  have e6 : (fun i => ro G loc' (aR h b i)) = (fun i => ro G loc (aR h b i)) := funext fun i => ro_eq hl (hc.2.1 b i)
  have e7 : fv G loc' (hnew2 h 5 1 n k) b = fv G loc h b := by
    funext q
    unfold fv
    rw [f1, f2, f3, cr_eq hl (hc.1 q.2 b)]
  unfold EE
  rw [e1, e2, e3, e4, e5, e6, e7]
end
theorem outer_arr (c : ClassId) (N h0 : Nat) : ∀ i, Jvm.Free.Multi.outerC c N h0 i = arrV c N (fun j => if j < i then .ref (h0 + 1 + j) else .null)
  | 0 => by
    show ({ cls := c, slots := Array.replicate N .null, vm := .none } : Cell) = _
    rw [arrV_new]
    rfl
  | i + 1 => by
    show (Jvm.Free.Multi.outerC c N h0 i).setSlot i (.ref (h0 + 1 + i)) = _
    rw [outer_arr c N h0 i, arrV_store]
    congr 1
    funext j
    unfold updV
    by_cases e : j = i
    · subst e; simp
    · by_cases e2 : j < i
      · simp [e, e2, Nat.lt_succ_of_lt e2]
      · simp [e, e2, show ¬ j < i + 1 by omega]
section
variable {l : Launch} {m pc : Nat} {cc : ByteArray}
theorem ss_na25 {own : String} {idx : Nat} (eb : (miT m).2.1 = cc) (eo : (miT m).1.cls = own) (hd : decode cc pc = .ok (.multianewarray idx 2, 4)) (hw : Cond.classLink own idx "[[I" ∈ lw_all) (hw2 : Cond.arrayClass .int ∈ lw_all) : SS l m pc (op_na2 (pc + 4)) := by
  intro d ls st h Q C' K' T' hC hK hT H
  unfold op_na2 at H
  split at H
  · rename_i k n r
    obtain ⟨hn, hk, hb1, hb2, H⟩ := H
    obtain ⟨o, h', hs, hq⟩ := hK _ _ _ _ (H _ _ rfl rfl)
    refine ⟨o, h', ?_, hq⟩
    obtain ⟨⟨m1, m2, m3⟩, hw0⟩ := hs
    obtain ⟨z1, z2, z3⟩ := hnew2_z (h := h) (n := n.toNatClampNeg) (k := k.toNatClampNeg)
    rw [z2] at m1
    rw [z3] at m2
    rw [z1] at m3
    have hle : hsz h ≤ hsz (hnew2 h 5 1 n.toNatClampNeg k.toNatClampNeg) := by omega
    refine ⟨⟨by omega, by omega, by omega⟩, fun hz => ?_⟩
    obtain ⟨hvo, hw1⟩ := hw0 hz
    have hv1 : vok (hnew2 h 5 1 n.toNatClampNeg k.toNatClampNeg) (.ref (hsz h)) := Or.inr (Or.inl (by omega))
    refine ⟨fun z a b => hvo (hnew2_hc z) (vokL_up hle a) (vokL_c hv1 (vokL_up hle (vokL_t (vokL_t b)))), ?_⟩
    intro p e s mm args below meth c0 G F loc HH locs cells slots la hr hS hl v1 v2 hla
    have hown : s.vm.findClass own = some mm.cls := by rw [← eo]; exact F.2.2.2.1
    have vr := vokL_t (vokL_t v2)
    intro T hT X
    obtain ⟨vm₁, cA, comp, hW1, hfA, hfC, -, -, X1, step⟩ := X.multianewarray2F F.1 (own := own) (index := idx) (ty := .int) hown (F.hts _ hw) (F.kf.2.1 _ nw4491) (F.hts _ hw2) (g := F0 mm pc la ((.int k :: .int n :: r).map (cv G loc))) rfl (by rw [F.2.1.trans eb]; exact hd) (n := n) (k := k) (rest := r.map (cv G loc)) rfl hn hk
      (by omega) (by show k.toNatClampNeg * 4 ≤ _; omega) (by omega) rfl rfl (by show cells + (1 + _) ≤ cells + (hnc h' - hnc h); omega) (by show slots + (_ + _) ≤ slots + (hns h' - hns h); omega)
    have eA : cA = gC G 5 := Option.some.inj (hfA.symm.trans (F.kf.1.2 4 (gC G 5, .array .int) rfl).2)
    have eC : comp = gC G 1 := Option.some.inj (hfC.symm.trans (F.kf.1.2 0 (gC G 1, .int) rfl).2)
    subst eA
    subst eC
    obtain ⟨f1, f2, -, -⟩ := Jvm.Free.Multi.fill_facts (T.setVm vm₁) (gC G 5) (gC G 1) n.toNatClampNeg k.toNatClampNeg (defaultValue .int) n.toNatClampNeg
    have f3 : ∀ q : Nat, q < T.heap.size → (Jvm.Free.Multi.fill (T.setVm vm₁) (gC G 5) (gC G 1) n.toNatClampNeg k.toNatClampNeg (defaultValue .int) n.toNatClampNeg).heap[q]? = T.heap[q]? := fun q hq => Jvm.Free.Multi.fill_old (T.setVm vm₁) _ _ _ _ _ hq _
    have f4 : ∀ j, j < n.toNatClampNeg → (Jvm.Free.Multi.fill (T.setVm vm₁) (gC G 5) (gC G 1) n.toNatClampNeg k.toNatClampNeg (defaultValue .int) n.toNatClampNeg).heap[T.heap.size + 1 + j]? = some (Jvm.Free.Multi.innerC (gC G 1) k.toNatClampNeg (defaultValue .int)) := fun j hj => Jvm.Free.Multi.fill_inner (T.setVm vm₁) _ _ _ _ _ _ j hj
    rw [outer_arr] at f2
    generalize hU : Jvm.Free.Multi.fill (T.setVm vm₁) (gC G 5) (gC G 1) n.toNatClampNeg k.toNatClampNeg (defaultValue .int) n.toNatClampNeg = U at X1 step f1 f2 f3 f4
    have f1 : U.heap.size = HH.size + 1 + n.toNatClampNeg := by rw [← hT]; exact f1
    have f2 : U.heap[HH.size]? = some (arrV (gC G 5) n.toNatClampNeg (fun j => if j < n.toNatClampNeg then .ref (HH.size + 1 + j) else .null)) := by rw [← hT]; exact f2
    rw [hT] at f3 f4 step
    have hzz : hsz h + 1 + n.toNatClampNeg ≤ strB := Nat.le_trans m3 hz
    let loc' : Nat → Nat := fun a => if a < hsz h then loc a else HH.size + (a - hsz h)
    have hl' : ∀ a, a < hsz h → loc' a = loc a := fun a ha => if_pos ha
    have hln : ∀ a, hsz h ≤ a → loc' a = HH.size + (a - hsz h) := fun a ha => if_neg (Nat.not_lt.mpr ha)
    have hold : ∀ b, 0 < b → b < hsz h → loc b < HH.size := by
      intro b b0 b1
      by_cases b7 : hcls h b = 7
      · rw [(hr.2.2.2 b b0 b1 b7).1]
        exact Nat.lt_of_lt_of_le F.kf.2.2.2.2.2.2.2.1 hS.1
      · exact (hr.2.1 b b0 b1 b7).1.lt
    have hS1 : va_S (gA G) s.heap U.heap locs := ⟨Nat.le_trans hS.1 (by omega), fun x h1 h2 => (f3 x (Nat.lt_of_lt_of_le h1 hS.1)).trans (hS.2.1 x h1 h2), hS.2.2⟩
    have hr1 : HR G loc' (hnew2 h 5 1 n.toNatClampNeg k.toNatClampNeg) U.heap := by
      refine ⟨hnew2_hc hr.1, fun b b0 b1 b7 => ?_, fun b c b0 b1 c0 c1 e => ?_, fun b b0 b1 b7 => ?_⟩
      · rw [z1] at b1
        by_cases e : b < hsz h
        · rw [(hnew2_o e).1] at b7
          obtain ⟨q1, q2⟩ := hr.2.1 b b0 e b7
          rw [EE_new2 hr.1 hl' e, hl' b e]
          refine ⟨(va_one q1).kept (fun i x hx => ?_) 0 _ rfl, q2⟩
          cases i with
          | zero => cases hx; exact f3 _ q1.lt
          | succ i => cases hx
        · rw [hln b (by omega)]
          refine ⟨?_, F.hA _ (Nat.le_trans hS.1 (by omega))⟩
          by_cases e2 : b = hsz h
          · subst e2
            obtain ⟨s1, s2, s3⟩ := hnew2_s (h := h) (n := n.toNatClampNeg) (k := k.toNatClampNeg)
            rw [EE_5 s1, s2, s3, Nat.sub_self, Nat.add_zero]
            show U.heap[HH.size]? = some (vp_cell _ _)
            rw [f2, vp_cell_q]
            congr 2
            funext j
            by_cases hj : j < n.toNatClampNeg
            · rw [if_pos hj]
              show _ = va_rf (ro G loc' (if j < n.toNatClampNeg then hsz h + 1 + j else 0))
              rw [if_pos hj]
              unfold ro
              rw [if_neg (by omega), if_neg (by omega), hln _ (by omega), show HH.size + (hsz h + 1 + j - hsz h) = HH.size + 1 + j by omega]
              rfl
            · rw [if_neg hj]
              show _ = va_rf (ro G loc' (if j < n.toNatClampNeg then hsz h + 1 + j else 0))
              rw [if_neg hj]
              rfl
          · obtain ⟨s1, s2, s3⟩ := hnew2_n (h := h) (n := n.toNatClampNeg) (k := k.toNatClampNeg) (b := b) (by omega) (by omega)
            rw [EE_1 s1, s2, s3]
            show U.heap[HH.size + (b - hsz h)]? = some (vp_cell _ _)
            have := f4 (b - hsz h - 1) (by omega)
            rw [show HH.size + 1 + (b - hsz h - 1) = HH.size + (b - hsz h) by omega] at this
            rw [this, vp_cell_i]
            show some ({ cls := gC G 1, slots := Array.replicate k.toNatClampNeg (.int 0), vm := .none } : Cell) = _
            rw [arrV_new]
      · rw [z1] at b1 c1
        by_cases e1 : b < hsz h
        · by_cases e2 : c < hsz h
          · rw [hl' b e1, hl' c e2] at e
            exact hr.2.2.1 b c b0 e1 c0 e2 e
          · rw [hl' b e1, hln c (by omega)] at e
            have := hold b b0 e1
            omega
        · by_cases e2 : c < hsz h
          · rw [hl' c e2, hln b (by omega)] at e
            have := hold c c0 e2
            omega
          · rw [hln b (by omega), hln c (by omega)] at e
            omega
      · rw [z1] at b1
        by_cases e : b < hsz h
        · obtain ⟨q1, q2, -, -, -, q6, -⟩ := hnew2_o (n := n.toNatClampNeg) (k := k.toNatClampNeg) e
          rw [q1] at b7
          obtain ⟨r1, r2, r3⟩ := hr.2.2.2 b b0 e b7
          exact ⟨(hl' b e).trans r1, q2.trans r2, q6.trans r3⟩
        · by_cases e2 : b = hsz h
          · subst e2
            rw [hnew2_s.1] at b7
            exact absurd b7 (by decide)
          · rw [(hnew2_n (by omega) (by omega)).1] at b7
            exact absurd b7 (by decide)
    have := hw1 p e s mm args below meth c0 G F loc' U.heap locs (cells + 1 + n.toNatClampNeg) (slots + n.toNatClampNeg + n.toNatClampNeg * k.toNatClampNeg) la hr1 hS1 hl (vokL_up hle v1) (vokL_c hv1 (vokL_up hle vr)) (by rw [prs_eq hl' 0 ls v1]; exact hla)
    rw [z1, z2, z3, show cells + 1 + n.toNatClampNeg + (hnc h' - (hnc h + 1 + n.toNatClampNeg)) = cells + (hnc h' - hnc h) by omega, show slots + n.toNatClampNeg + n.toNatClampNeg * k.toNatClampNeg + (hns h' - (hns h + n.toNatClampNeg + n.toNatClampNeg * k.toNatClampNeg)) = slots + (hns h' - hns h) by omega] at this
    rw [List.map_cons, map_cv_eq hl' vr, show cv G loc' (.ref (hsz h)) = .ref HH.size by
      show cr G _ _ = _
      rw [cr_loc hr.1.2.2.2 (Nat.lt_succ_self _) (by omega), hln _ (Nat.le_refl _), Nat.sub_self, Nat.add_zero]] at this
    have hfin := W.imp (vx_MQ.imp (Qc' := QC G loc (hsz h) o h') (X' := XC G loc (hsz h) o h') ?_ ?_) this
    · obtain ⟨t, a1, b1⟩ := hfin U rfl X1
      exact ⟨t, step t a1, b1⟩
    · rintro oc t ⟨⟨v, loc2, a1, a2, a3⟩, a4⟩
      exact ⟨⟨v, loc2, a1, fun a ha => (a2 a (by omega)).trans (hl' a ha), a3⟩, a4⟩
    · rintro EN qa t ⟨⟨r, loc2, a1, a2, a3⟩, a4⟩
      exact ⟨⟨r, loc2, a1, fun a ha => (a2 a (by omega)).trans (hl' a ha), a3⟩, a4⟩
  · exact H.elim
end
