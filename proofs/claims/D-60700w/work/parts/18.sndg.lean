/-! SOUND 16: table switches -/
set_option maxRecDepth 100000
/-- the table from k on; rows that lead to the default may be left out -/
def tsB (pc dflt : Nat) : Int → List Int → List (Int32 × Nat) → Bool
  | _, [], [] => true
  | _, [], _ :: _ => false
  | k, o :: u, [] => decide ((pc : Int) + o = (dflt : Int)) && tsB pc dflt (k + 1) u []
  | k, o :: u, q :: t => bif decide (q.1.toInt = k) then decide ((pc : Int) + o = (q.2 : Int)) && tsB pc dflt (k + 1) u t else decide ((pc : Int) + o = (dflt : Int)) && decide (k < q.1.toInt) && tsB pc dflt (k + 1) u (q :: t)
theorem tsB_lt {pc dflt : Nat} {x : Int32} : ∀ (offs : List Int) (k : Int) (tb : List (Int32 × Nat)), tsB pc dflt k offs tb = true → x.toInt < k ∨ k + offs.length ≤ x.toInt → swl x dflt tb = dflt
  | [], _, [], _, _ => rfl
  | [], _, _ :: _, H, _ => by simp [tsB] at H
  | o :: u, k, [], _, _ => rfl
  | o :: u, k, q :: t, H, hx => by
    rw [List.length_cons] at hx
    unfold tsB at H
    by_cases e : q.1.toInt = k
    · simp only [e, decide_true, cond_true, Bool.and_eq_true] at H
      have hne : ¬ x = q.1 := fun z => by rw [z, e] at hx; omega
      unfold swl
      rw [if_neg hne]
      exact tsB_lt u (k + 1) t H.2 (by omega)
    · simp only [e, decide_false, cond_false, Bool.and_eq_true] at H
      exact tsB_lt u (k + 1) (q :: t) H.2 (by omega)
theorem tsB_in {pc dflt : Nat} {x : Int32} : ∀ (offs : List Int) (k : Int) (tb : List (Int32 × Nat)) (i : Nat), tsB pc dflt k offs tb = true → x.toInt = k + i → i < offs.length → ∃ off, offs[i]? = some off ∧ (pc : Int) + off = (swl x dflt tb : Int)
  | [], _, _, _, _, _, hi => by simp at hi
  | o :: u, k, [], i, H, hx, hi => by
    simp only [tsB, Bool.and_eq_true, decide_eq_true_eq] at H
    cases i with
    | zero => exact ⟨o, rfl, H.1⟩
    | succ i =>
      obtain ⟨off, h1, h2⟩ := tsB_in (x := x) u (k + 1) [] i H.2 (by omega) (by simpa using hi)
      exact ⟨off, h1, h2⟩
  | o :: u, k, q :: t, i, H, hx, hi => by
    unfold tsB at H
    by_cases e : q.1.toInt = k
    · simp only [e, decide_true, cond_true, Bool.and_eq_true, decide_eq_true_eq] at H
      cases i with
      | zero =>
        have he : x = q.1 := Int32.toInt_inj.mp (by rw [e]; omega)
        refine ⟨o, rfl, ?_⟩
        unfold swl
        rw [if_pos he]
        exact H.1
      | succ i =>
        obtain ⟨off, h1, h2⟩ := tsB_in (x := x) u (k + 1) t i H.2 (by omega) (by simpa using hi)
        have hne : ¬ x = q.1 := fun z => by rw [z, e] at hx; omega
        refine ⟨off, h1, ?_⟩
        unfold swl
        rw [if_neg hne]
        exact h2
    · simp only [e, decide_false, cond_false, Bool.and_eq_true, decide_eq_true_eq] at H
      cases i with
      | zero =>
        refine ⟨o, rfl, ?_⟩
        rw [tsB_lt u (k + 1) (q :: t) H.2 (by omega)]
        exact H.1.1
      | succ i =>
        obtain ⟨off, h1, h2⟩ := tsB_in (x := x) u (k + 1) (q :: t) i H.2 (by omega) (by simpa using hi)
        exact ⟨off, h1, h2⟩
section
variable {l : Launch} {m pc : Nat} {cc : ByteArray}
theorem ss_table {len dflt : Nat} {d lo hi : Int} {offs : Array Int} {tb : List (Int32 × Nat)} (eb : (miT m).2.1 = cc) (hd : decode cc pc = .ok (.tableswitch d lo hi offs, len)) (h0 : (pc : Int) + d = (dflt : Int)) (hn : hi + 1 = lo + offs.toList.length) (hB : tsB pc dflt lo offs.toList tb = true) : SS l m pc (op_sw dflt tb) := by
  refine ss_stack eb fun C K T ls st h H => ?_
  unfold op_sw at H
  split at H
  · rename_i x r
    refine ⟨_, _, swk_swl _ H, fun b => vokL_t b, fun G loc p l e R s mm args below meth c Hh locs cells slots Q la hx hb k => ?_⟩
    by_cases h1 : x.toInt < lo ∨ hi < x.toInt
    · exact lv_tableOut hx hb hd h1 (by rw [tsB_lt _ _ _ hB (by omega)]; exact h0) k
    · obtain ⟨off, h2, h3⟩ := tsB_in (x := x) _ _ _ (x.toInt - lo).toNat hB (by omega) (by omega)
      exact lv_tableIn hx hb hd (by omega) (by omega) (by rw [← Array.getElem?_toList]; exact h2) h3 k
  · exact H.elim
end
