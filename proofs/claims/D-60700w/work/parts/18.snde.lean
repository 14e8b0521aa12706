/-! SOUND 14: long comparisons with their branches -/
set_option maxRecDepth 100000
section
variable {l : Launch} {m pc : Nat} {cc : ByteArray}
theorem ss_eql {off : Int} {t : Nat} (eb : (miT m).2.1 = cc) (hd0 : decode cc pc = .ok (.lcmp, 1)) (hd : decode cc (pc + 1) = .ok (.ifCond .eq off, 3)) (ht : ((pc + 1 : Nat) : Int) + off = (t : Int)) : SS l m pc (op_eql t (pc + 4)) := by
  refine ss_stack eb fun C K T ls st h H => ?_
  unfold op_eql at H
  split at H
  · rename_i y x st
    by_cases hc : x = y
    · have hc2 : lg_cmp x y = 0 := (lg_cmp_eq x y).mpr hc
      exact ⟨_, _, H.1 hc, fun b => vokL_t (vokL_t b), fun G loc p l e R s mm args below meth c Hh locs cells slots Q la hx hb k => W.lcmp hx hb hd0 (lv_if_eq hx hb hd ht (fun _ => k) (fun z => absurd hc2 z))⟩
    · have hc2 : ¬ lg_cmp x y = 0 := fun w => hc ((lg_cmp_eq x y).mp w)
      exact ⟨_, _, H.2 hc, fun b => vokL_t (vokL_t b), fun G loc p l e R s mm args below meth c Hh locs cells slots Q la hx hb k => W.lcmp hx hb hd0 (lv_if_eq hx hb hd ht (fun z => absurd z hc2) (fun _ => k))⟩
  · exact H.elim
theorem ss_nel {off : Int} {t : Nat} (eb : (miT m).2.1 = cc) (hd0 : decode cc pc = .ok (.lcmp, 1)) (hd : decode cc (pc + 1) = .ok (.ifCond .ne off, 3)) (ht : ((pc + 1 : Nat) : Int) + off = (t : Int)) : SS l m pc (op_nel t (pc + 4)) := by
  refine ss_stack eb fun C K T ls st h H => ?_
  unfold op_nel at H
  split at H
  · rename_i y x st
    by_cases hc : x = y
    · have hc2 : lg_cmp x y = 0 := (lg_cmp_eq x y).mpr hc
      exact ⟨_, _, H.1 hc, fun b => vokL_t (vokL_t b), fun G loc p l e R s mm args below meth c Hh locs cells slots Q la hx hb k => W.lcmp hx hb hd0 (lv_if_ne hx hb hd ht (fun z => absurd hc2 z) (fun _ => k))⟩
    · have hc2 : ¬ lg_cmp x y = 0 := fun w => hc ((lg_cmp_eq x y).mp w)
      exact ⟨_, _, H.2 hc, fun b => vokL_t (vokL_t b), fun G loc p l e R s mm args below meth c Hh locs cells slots Q la hx hb k => W.lcmp hx hb hd0 (lv_if_ne hx hb hd ht (fun _ => k) (fun z => absurd z hc2))⟩
  · exact H.elim
theorem ss_ltl {off : Int} {t : Nat} (eb : (miT m).2.1 = cc) (hd0 : decode cc pc = .ok (.lcmp, 1)) (hd : decode cc (pc + 1) = .ok (.ifCond .lt off, 3)) (ht : ((pc + 1 : Nat) : Int) + off = (t : Int)) : SS l m pc (op_ltl t (pc + 4)) := by
  refine ss_stack eb fun C K T ls st h H => ?_
  unfold op_ltl at H
  split at H
  · rename_i y x st
    by_cases hc : x < y
    · have hc2 : lg_cmp x y < 0 := (lg_cmp_lt x y).mpr hc
      exact ⟨_, _, H.1 hc, fun b => vokL_t (vokL_t b), fun G loc p l e R s mm args below meth c Hh locs cells slots Q la hx hb k => W.lcmp hx hb hd0 (lv_if_lt hx hb hd ht (fun _ => k) (fun z => absurd hc2 z))⟩
    · have hc2 : ¬ lg_cmp x y < 0 := fun w => hc ((lg_cmp_lt x y).mp w)
      exact ⟨_, _, H.2 hc, fun b => vokL_t (vokL_t b), fun G loc p l e R s mm args below meth c Hh locs cells slots Q la hx hb k => W.lcmp hx hb hd0 (lv_if_lt hx hb hd ht (fun z => absurd z hc2) (fun _ => k))⟩
  · exact H.elim
theorem ss_gel {off : Int} {t : Nat} (eb : (miT m).2.1 = cc) (hd0 : decode cc pc = .ok (.lcmp, 1)) (hd : decode cc (pc + 1) = .ok (.ifCond .ge off, 3)) (ht : ((pc + 1 : Nat) : Int) + off = (t : Int)) : SS l m pc (op_gel t (pc + 4)) := by
  refine ss_stack eb fun C K T ls st h H => ?_
  unfold op_gel at H
  split at H
  · rename_i y x st
    by_cases hc : x < y
    · have hc2 : lg_cmp x y < 0 := (lg_cmp_lt x y).mpr hc
      exact ⟨_, _, H.1 hc, fun b => vokL_t (vokL_t b), fun G loc p l e R s mm args below meth c Hh locs cells slots Q la hx hb k => W.lcmp hx hb hd0 (lv_if_ge hx hb hd ht (fun z => absurd hc2 (Int32.not_lt.mpr z)) (fun _ => k))⟩
    · have hc2 : ¬ lg_cmp x y < 0 := fun w => hc ((lg_cmp_lt x y).mp w)
      exact ⟨_, _, H.2 hc, fun b => vokL_t (vokL_t b), fun G loc p l e R s mm args below meth c Hh locs cells slots Q la hx hb k => W.lcmp hx hb hd0 (lv_if_ge hx hb hd ht (fun _ => k) (fun z => absurd (Int32.not_le.mp z) hc2))⟩
  · exact H.elim
theorem ss_gtl {off : Int} {t : Nat} (eb : (miT m).2.1 = cc) (hd0 : decode cc pc = .ok (.lcmp, 1)) (hd : decode cc (pc + 1) = .ok (.ifCond .gt off, 3)) (ht : ((pc + 1 : Nat) : Int) + off = (t : Int)) : SS l m pc (op_gtl t (pc + 4)) := by
  refine ss_stack eb fun C K T ls st h H => ?_
  unfold op_gtl at H
  split at H
  · rename_i y x st
    by_cases hc : y < x
    · have hc2 : 0 < lg_cmp x y := (lg_cmp_gt x y).mpr hc
      exact ⟨_, _, H.1 hc, fun b => vokL_t (vokL_t b), fun G loc p l e R s mm args below meth c Hh locs cells slots Q la hx hb k => W.lcmp hx hb hd0 (lv_if_gt hx hb hd ht (fun _ => k) (fun z => absurd hc2 z))⟩
    · have hc2 : ¬ 0 < lg_cmp x y := fun w => hc ((lg_cmp_gt x y).mp w)
      exact ⟨_, _, H.2 hc, fun b => vokL_t (vokL_t b), fun G loc p l e R s mm args below meth c Hh locs cells slots Q la hx hb k => W.lcmp hx hb hd0 (lv_if_gt hx hb hd ht (fun z => absurd z hc2) (fun _ => k))⟩
  · exact H.elim
theorem ss_lel {off : Int} {t : Nat} (eb : (miT m).2.1 = cc) (hd0 : decode cc pc = .ok (.lcmp, 1)) (hd : decode cc (pc + 1) = .ok (.ifCond .le off, 3)) (ht : ((pc + 1 : Nat) : Int) + off = (t : Int)) : SS l m pc (op_lel t (pc + 4)) := by
  refine ss_stack eb fun C K T ls st h H => ?_
  unfold op_lel at H
  split at H
  · rename_i y x st
    by_cases hc : y < x
    · have hc2 : 0 < lg_cmp x y := (lg_cmp_gt x y).mpr hc
      exact ⟨_, _, H.1 hc, fun b => vokL_t (vokL_t b), fun G loc p l e R s mm args below meth c Hh locs cells slots Q la hx hb k => W.lcmp hx hb hd0 (lv_if_le hx hb hd ht (fun z => absurd hc2 (Int32.not_lt.mpr z)) (fun _ => k))⟩
    · have hc2 : ¬ 0 < lg_cmp x y := fun w => hc ((lg_cmp_gt x y).mp w)
      exact ⟨_, _, H.2 hc, fun b => vokL_t (vokL_t b), fun G loc p l e R s mm args below meth c Hh locs cells slots Q la hx hb k => W.lcmp hx hb hd0 (lv_if_le hx hb hd ht (fun _ => k) (fun z => absurd (Int32.not_le.mp z) hc2))⟩
  · exact H.elim
end
