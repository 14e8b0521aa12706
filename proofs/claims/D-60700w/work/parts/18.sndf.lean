/-! SOUND 15: switches -/
set_option maxRecDepth 100000
def swl (x : Int32) (dflt : Nat) : List (Int32 × Nat) → Nat
  | [] => dflt
  | q :: t => if x = q.1 then q.2 else swl x dflt t
theorem swk_swl {K : Kt} {ls st : List Value} {h : HP} {x : Int32} {dflt : Nat} : ∀ tb : List (Int32 × Nat), swk K ls st h x dflt tb → K (swl x dflt tb) ls st h
  | [], H => H
  | q :: t, H => by
    unfold swl
    by_cases e : x = q.1
    · rw [if_pos e]; exact H.1 e
    · rw [if_neg e]; exact swk_swl t (H.2 e)
def lkB (pc : Nat) : List (Int32 × Nat) → List (Int × Int) → Bool
  | [], [] => true
  | q :: t, r :: u => decide (q.1.toInt = r.1) && decide ((pc : Int) + r.2 = (q.2 : Int)) && lkB pc t u
  | _, _ => false
theorem lkB_off {pc dflt : Nat} {d : Int} {x : Int32} (hd : (pc : Int) + d = (dflt : Int)) : ∀ (tb : List (Int32 × Nat)) (ps : List (Int × Int)), lkB pc tb ps = true → (pc : Int) + Op.lookupswitch.offset ps d x.toInt = (swl x dflt tb : Int)
  | [], [], _ => hd
  | q :: t, r :: u, H => by
    simp only [lkB, Bool.and_eq_true, decide_eq_true_eq] at H
    obtain ⟨⟨h1, h2⟩, h3⟩ := H
    have ih := lkB_off (x := x) hd t u h3
    obtain ⟨r1, r2⟩ := r
    unfold swl
    by_cases e : x = q.1
    · subst e
      simp only [Op.lookupswitch.offset, h1, if_pos]
      simpa using h2
    · have e2 : ¬ x.toInt = r1 := fun z => e (Int32.toInt_inj.mp (z.trans h1.symm))
      have e3 : ¬ r1 = x.toInt := fun z => e2 z.symm
      simp only [Op.lookupswitch.offset, if_neg e]
      first | (rw [if_neg e2]; exact ih) | (rw [if_neg e3]; exact ih) | (simp [e2, e3]; exact ih)
  | [], _ :: _, H => by simp [lkB] at H
  | _ :: _, [], H => by simp [lkB] at H
section
variable {l : Launch} {m pc : Nat} {cc : ByteArray}
theorem ss_lookup {len dflt : Nat} {d : Int} {ps : Array (Int × Int)} {tb : List (Int32 × Nat)} (eb : (miT m).2.1 = cc) (hd : decode cc pc = .ok (.lookupswitch d ps, len)) (hp : (ps.toList.zip (ps.toList.drop 1)).all (fun (a, next) => a.1 < next.1) = true) (h0 : (pc : Int) + d = (dflt : Int)) (hB : lkB pc tb ps.toList = true) : SS l m pc (op_sw dflt tb) := by
  refine ss_stack eb fun C K T ls st h H => ?_
  unfold op_sw at H
  split at H
  · exact ⟨_, _, swk_swl _ H, fun b => vokL_t b, fun G loc p l e R s mm args below meth c Hh locs cells slots Q la hx hb k => lv_lookup hx hb hd hp rfl (lkB_off h0 _ _ hB) k⟩
  · exact H.elim
end
