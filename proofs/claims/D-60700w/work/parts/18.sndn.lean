/-! SOUND 23: arrays of arrays; wide string constants; all of a method -/
set_option maxRecDepth 100000
/-- every instruction of the table T is sound -/
def At (l : Launch) (m : Nat) (T : CT) : Prop := ∀ (pc : Nat) (q : CE), T pc = some q → SS l m pc q.2
section
variable {l : Launch} {m pc n m' c k : Nat} {cc : ByteArray} {xt : XT} {e : SF} {mk : List Bool} {L R T : CT}
theorem at_n : At l m ct_n := fun _ _ h => by cases h
theorem at_l (h : SS l m n e) (t : At l m T) : At l m (ct_l n e T) := by
  intro pc q hq
  unfold ct_l at hq
  cases hb : Nat.beq pc n with
  | false => rw [hb] at hq; exact t pc q hq
  | true =>
    rw [hb] at hq
    cases hq
    rw [Nat.eq_of_beq_eq_true hb]
    exact h
theorem at_s (h : SS l m n e) (t : At l m T) : At l m (ct_s n mk e T) := by
  intro pc q hq
  unfold ct_s at hq
  cases hb : Nat.beq pc n with
  | false => rw [hb] at hq; exact t pc q hq
  | true =>
    rw [hb] at hq
    cases hq
    rw [Nat.eq_of_beq_eq_true hb]
    exact h
theorem at_b (h1 : At l m L) (h2 : At l m R) : At l m (ct_b k L R) := by
  intro pc q hq
  unfold ct_b at hq
  cases hb : Nat.blt pc k with
  | false => rw [hb] at hq; exact h2 pc q hq
  | true => rw [hb] at hq; exact h1 pc q hq
theorem ss_virt1 (hok : CallOK l m pc c m' n) (hM : MOK m') (hX : XOK (miT m).1.cls xt (miT m).2.2.2.2) : SS l m pc (op_virt [(c, m')] n pc (pc + 3) xt) :=
  ss_virt (fun q hq => by rw [List.mem_singleton.mp hq]; exact ⟨hok, hM⟩) hX
theorem ss_ldcSw {own tx : String} {idx k : Nat} (eb : (miT m).2.1 = cc) (eo : (miT m).1.cls = own) (hd : decode cc pc = .ok (.ldc_w idx, 3)) (hk : k < 115) (hq : (own, idx, tx, k) ∈ srT) : SS l m pc (op_c (.ref (strB + k)) (pc + 3)) := by
  refine ss_pushF (fun _ => Or.inr (Or.inr ⟨Nat.le_add_right _ _, Nat.add_lt_add_left hk _⟩)) ?_
  intro p e s mm args below meth c G F R Q loc h H locs cells slots la r hr hS hz kk
  obtain ⟨-, -, -, -, -, -, -, -, -, -, adK, adV, -, -, hs⟩ := F.kf
  have hZ := hs _ hq
  rw [show cv G loc (.ref (strB + k)) = .ref (gS G k) from cr_str] at kk
  have hown : s.vm.findClass own = some mm.cls := by rw [← eo]; exact F.2.2.2.1
  intro T hT X
  obtain ⟨t, a1, b1⟩ := kk T hT X
  exact ⟨t, X.ldcStringW F.1 hown (text := tx) (a := gS G k) hZ.1 hZ.2 (g := F0 mm pc la r) rfl (by rw [F.2.1.trans eb]; exact hd) t a1, b1⟩
/-- the classes of int[][] and int[] -/
theorem FX.aoa {k : MI} {p : Program} {s : State} {mm : MethodId} {args : Array Value} {meth : Method} {c : Code} {G : GX} (F : FX k p s mm args meth c G) : ∃ kA : Class, s.vm.classes[gC G 5]? = some kA ∧ kA.kind = .array (gC G 1) (.array .int) ∧ s.vm.findClass (FieldType.array .int).toString = some (gC G 1) := by
  obtain ⟨comp, c, k, h1, h2, h3, h4, h5⟩ := arrayOverA_spec (F.kf.2.1 _ nw4491)
  have e5 : s.vm.findClass ("[" ++ (FieldType.array .int).toString) = some (gC G 5) := (F.kf.1.2 4 (gC G 5, .array .int) rfl).2
  have e1 : s.vm.findClass ("[" ++ FieldType.int.toString) = some (gC G 1) := (F.kf.1.2 0 (gC G 1, .int) rfl).2
  have q1 : c = gC G 5 := Option.some.inj (h5.symm.trans e5)
  have q2 : comp = gC G 1 := Option.some.inj (h1.symm.trans e1)
  subst q1
  subst q2
  exact ⟨k, h3, h4, h1⟩
theorem ss_aast5 (eb : (miT m).2.1 = cc) (hd : decode cc pc = .ok (.aastore, 1)) : SS l m pc (op_tA (pc + 1)) := by
  refine ss_ast0 (nx := pc + 1) fun C' K' T' ls st h H => ?_
  unfold op_tA at H
  split at H
  · rename_i v i a r
    obtain ⟨hA, hV, hI, H⟩ := H
    refine ⟨_, _, _, _, _, rfl, H _ rfl, by rw [hA]; decide, by rw [hA]; decide, OnlyA.tR _ _ _ _, fun z hv j => ?_, ?_⟩
    · rw [show aR (tR h a i.toNatClampNeg v) a = up1 (aR h a) i.toNatClampNeg v from up2_eq]
      unfold up1
      by_cases e : j = i.toNatClampNeg
      · rw [if_pos e]; exact hv
      · rw [if_neg e]; exact z.2.1 _ j
    · intro p e s mm args below meth c G F R Q loc HH locs cells slots la rr j hr hS hz hj kk
      rw [EE_5 hA] at hj
      have hA1 : hcls (tR h a i.toNatClampNeg v) a = 5 := hA
      obtain ⟨kA, k1, k2, k3⟩ := F.aoa
      have hI' := hI.vp
      have hlt : i.toNatClampNeg < hlen h a := Nat.not_le.mp fun q => hI' (Or.inr q)
      have h0 : ¬ i < 0 := fun q => hI' (Or.inl q)
      obtain ⟨hat, -, ha0, ha1⟩ := hr.at hV (by decide) (by decide)
      rw [EE_1 hV] at hat
      rw [show cv G loc (.ref v) = .ref (loc v) from cr_loc ha0 ha1 hz]
      obtain ⟨kC, hkC, -⟩ := Vm.findClass_spec k3
      refine W.aast F.1 (F.2.1.trans eb) (hr.P j _ hj) (fun q h => by cases h) (fun h => by cases h) k1 k2 rfl hkC ⟨h0, by show _ < (arrV _ _ _).slots.size; rw [arrV_size]; exact hlt⟩ hat (fun q h => by cases h) hkC (va_asg _ _) rfl rfl hd fun H1 e z oq => ?_
      refine kk H1 _ (hr.P.set hr.D hj ?_ oq) (hS.put z oq (hr.D.2 j _ hj))
      rw [EE_5 hA1]
      show H1[loc a]? = some (vp_cell _ _)
      rw [e, ro_up, show ro G loc v = some (loc v) by unfold ro; rw [if_neg (by omega), if_neg (by omega)]]
      show some ((vp_cell _ _).setSlot _ _) = _
      rw [vp_cell_q, vp_cell_q, arrV_store]
      congr 2
      funext q
      by_cases hq : q = i.toNatClampNeg
      · subst hq
        simp [updV, va_up, va_rf]
      · simp [updV, va_up, hq]
  · exact H.elim
theorem ss_na5 {own : String} {idx : Nat} (eb : (miT m).2.1 = cc) (eo : (miT m).1.cls = own) (hd : decode cc pc = .ok (.anewarray idx, 3)) (hw : Cond.classLink own idx "[I" ∈ lw_all) : SS l m pc (op_na 5 (pc + 3)) := by
  intro d ls st h Q C' K' T' hC hK hT H
  unfold op_na at H
  split at H
  · rename_i n r
    obtain ⟨hn, hb, H⟩ := H
    obtain ⟨o, h', hs, hq⟩ := hK _ _ _ _ (H _ _ rfl rfl)
    refine ⟨o, h', SM.new hs (by decide) (fun z => vokL_t z) ?_, hq⟩
    intro p e s mm args below meth c0 G F R QQ loc HH locs cells slots la hr hS v2 hz hcells hslots kk
    have hown : s.vm.findClass own = some mm.cls := by rw [← eo]; exact F.2.2.2.1
    refine W.anewA (t := .int) F.1 (F.2.1.trans eb) hown (F.hts _ hw) (F.kf.2.1 _ nw4491) rfl hd rfl hn (by omega) hcells hslots fun cA kA comp f1 f2 f3 f4 => ?_
    have e5 : cA = gC G 5 := Option.some.inj (f1.symm.trans (F.kf.1.2 4 (gC G 5, .array .int) rfl).2)
    subst e5
    generalize hH1 : HH.push ({ cls := gC G 5, slots := Array.replicate n.toNatClampNeg .null, vm := .none } : Cell) = H1
    have e1 : H1[HH.size]? = some (arrV (gC G 5) n.toNatClampNeg (fun _ => .null)) := by rw [← hH1, Array.getElem?_push_size, ← arrV_new]
    have o1 : ∀ q : Nat, q < HH.size → H1[q]? = HH[q]? := fun q hq => by rw [← hH1, Array.getElem?_push, if_neg (Nat.ne_of_lt hq)]
    have z1 : H1.size = HH.size + 1 := by rw [← hH1, Array.size_push]
    have hkp : ∀ (k : Nat) (x : Nat × va_E), (wsA G loc h)[k]? = some x → H1[x.1]? = HH[x.1]? := fun k x hx => o1 x.1 ((hr.P k x hx).lt)
    refine kk HH.size H1 _ rfl ((hr.P.kept hkp).app (fun k x hx => ?_)) (hr.D.push hr.P rfl (F.hA _ hS.1)) ⟨Nat.le_trans hS.1 (by omega), fun x h1 h2 => (o1 x (Nat.lt_of_lt_of_le h1 hS.1)).trans (hS.2.1 x h1 h2), hS.2.2⟩
    cases k with
    | zero =>
      cases hx
      rw [EE_5 cl_new, ar_new, ln_new]
      show H1[HH.size]? = some (vp_cell _ _)
      rw [e1, vp_cell_q]
      rfl
    | succ k => cases hx
  · exact H.elim
end
