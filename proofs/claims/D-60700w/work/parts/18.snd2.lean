/-! SOUND 2: locals and stack; instructions that leave the heap alone -/
set_option maxRecDepth 100000
theorem lset_len : ∀ (ls : List Value) (k : Nat) (x : Value), (lset ls k x).length = ls.length
  | [], _, _ => rfl
  | _ :: _, 0, _ => rfl
  | v :: t, 1, x => by simp [lset, lset_len t 0 x]
  | v :: t, k + 2, x => by simp [lset, lset_len t (k + 1) x]
theorem lset2_len (ls : List Value) (k : Nat) (x : Value) : (lset2 ls k x).length = ls.length := by rw [lset2, lset_len, lset_len]
theorem prs_get {G : GX} {loc : Nat → Nat} : ∀ (ls : List Value) (i k : Nat) {v : Value}, lget ls k = v → v ≠ .null → (i + k, cv G loc v) ∈ prs G loc i ls
  | [], i, k, v, e, n => by simp [lget] at e; exact absurd e.symm n
  | w :: t, i, 0, v, e, n => by
    have e : w = v := e
    subst e
    cases w <;> first | exact absurd rfl n | simp [prs]
  | w :: t, i, k + 1, v, e, n => by
    have h := prs_get t (i + 1) k (G := G) (loc := loc) (show lget t k = v from e) n
    rw [show i + 1 + k = i + (k + 1) by omega] at h
    cases w <;> simp [prs, h]
theorem lget_lt : ∀ (ls : List Value) (k : Nat), lget ls k ≠ .null → k < ls.length
  | [], k, n => absurd rfl n
  | _ :: _, 0, _ => by simp
  | _ :: t, k + 1, n => by
    have h := lget_lt t k n
    simp only [List.length_cons]
    omega
theorem prs_ge {G : GX} {loc : Nat → Nat} : ∀ (ls : List Value) (i : Nat), ∀ q ∈ prs G loc i ls, i ≤ q.1
  | [], i, q, h => by simp [prs] at h
  | w :: t, i, q, h => by
    have ih := prs_ge (G := G) (loc := loc) t (i + 1) q
    cases w <;> simp only [prs, List.mem_cons] at h <;> first | (have := ih h; omega) | (rcases h with rfl | h; exact Nat.le_refl _; have := ih h; omega)
theorem cv_cat {G : GX} {loc : Nat → Nat} {v : Value} (h : (cv G loc v).category = 2) : v.category = 2 := by
  cases v with
  | ref a =>
    simp only [cv, cr] at h
    split at h
    · exact h
    · split at h <;> exact h
  | _ => exact h
theorem prs_cons {G : GX} {loc : Nat → Nat} {w : Value} {t : List Value} {i : Nat} {q : Nat × Value} : q ∈ prs G loc i (w :: t) ↔ (w ≠ .null ∧ q = (i, cv G loc w)) ∨ q ∈ prs G loc (i + 1) t := by
  cases w <;> simp [prs]
/-- neither float nor double -/
def vpl (v : Value) : Prop := match v with
  | .ref _ => True
  | .int _ => True
  | .long _ => True
  | .null => True
  | _ => False
theorem vok.pl {h : HP} {v : Value} (e : vok h v) : vpl v := by cases v <;> first | trivial | exact e
theorem cv_cat2 {G : GX} {loc : Nat → Nat} {w : Value} (hw : vpl w) : (cv G loc (lhd w)).category ≠ 2 := by
  intro e
  have e := cv_cat e
  cases w <;> first | (simp [lhd, Value.category] at e; done) | exact hw
theorem prs_lset {G : GX} {loc : Nat → Nat} : ∀ (ls : List Value) (i k : Nat) (x : Value) (q : Nat × Value), (∀ v ∈ ls, vpl v) → q ∈ prs G loc i (lset ls k x) →
    (x ≠ .null ∧ q = (i + k, cv G loc x)) ∨ (q ∈ prs G loc i ls ∧ q.1 ≠ i + k ∧ ¬ (q.1 + 1 = i + k ∧ q.2.category = 2))
  | [], i, k, x, q, _, h => by simp [lset, prs] at h
  | w :: t, i, 0, x, q, hd, h => by
    rw [lset, prs_cons] at h
    rcases h with h | h
    · exact Or.inl h
    · have := prs_ge t (i + 1) q h
      exact Or.inr ⟨prs_cons.mpr (Or.inr h), by omega, fun z => by omega⟩
  | w :: t, i, 1, x, q, hd, h => by
    rw [lset, prs_cons] at h
    rcases h with ⟨n, rfl⟩ | h
    · refine Or.inr ⟨prs_cons.mpr (Or.inl ⟨?_, ?_⟩), by simp, fun z => cv_cat2 (hd w List.mem_cons_self) z.2⟩
      · cases w <;> simp_all [lhd]
      · cases w <;> simp_all [lhd]
    · rcases prs_lset t (i + 1) 0 x q (fun v hv => hd v (List.mem_cons_of_mem _ hv)) h with ⟨n, rfl⟩ | ⟨a, b, c⟩
      · exact Or.inl ⟨n, rfl⟩
      · have := prs_ge t (i + 1) q a
        exact Or.inr ⟨prs_cons.mpr (Or.inr a), by omega, fun z => by omega⟩
  | w :: t, i, k + 2, x, q, hd, h => by
    rw [lset, prs_cons] at h
    rcases h with ⟨n, rfl⟩ | h
    · exact Or.inr ⟨prs_cons.mpr (Or.inl ⟨n, rfl⟩), by simp, fun z => by have := z.1; simp at this⟩
    · rcases prs_lset t (i + 1) (k + 1) x q (fun v hv => hd v (List.mem_cons_of_mem _ hv)) h with ⟨n, rfl⟩ | ⟨a, b, c⟩
      · exact Or.inl ⟨n, by simp only [Prod.mk.injEq]; exact ⟨by omega, trivial⟩⟩
      · exact Or.inr ⟨prs_cons.mpr (Or.inr a), by omega, fun z => c ⟨by omega, z.2⟩⟩
theorem lset_mem : ∀ (ls : List Value) (k : Nat) (x : Value), ∀ v ∈ lset ls k x, v = x ∨ v = .null ∨ v ∈ ls
  | [], _, _, v, h => by simp [lset] at h
  | w :: t, 0, x, v, h => by
    simp only [lset, List.mem_cons] at h
    rcases h with h | h
    · exact Or.inl h
    · exact Or.inr (Or.inr (List.mem_cons_of_mem _ h))
  | w :: t, 1, x, v, h => by
    simp only [lset, List.mem_cons] at h
    rcases h with h | h
    · cases w <;> simp_all [lhd]
    · rcases lset_mem t 0 x v h with h | h | h
      · exact Or.inl h
      · exact Or.inr (Or.inl h)
      · exact Or.inr (Or.inr (List.mem_cons_of_mem _ h))
  | w :: t, k + 2, x, v, h => by
    simp only [lset, List.mem_cons] at h
    rcases h with h | h
    · exact Or.inr (Or.inr (h ▸ List.mem_cons_self))
    · rcases lset_mem t (k + 1) x v h with h | h | h
      · exact Or.inl h
      · exact Or.inr (Or.inl h)
      · exact Or.inr (Or.inr (List.mem_cons_of_mem _ h))
theorem vokL_lset {h : HP} {ls : List Value} {k : Nat} {x : Value} (a : vokL h ls) (b : vok h x) : vokL h (lset ls k x) := by
  intro v hv
  rcases lset_mem ls k x v hv with rfl | rfl | e
  · exact b
  · trivial
  · exact a v e
theorem vokL_c {h : HP} {l : List Value} {v : Value} (a : vok h v) (b : vokL h l) : vokL h (v :: l) := by
  intro w hw
  rcases List.mem_cons.mp hw with rfl | e
  · exact a
  · exact b w e
theorem vokL_t {h : HP} {l : List Value} {v : Value} (b : vokL h (v :: l)) : vokL h l := fun w hw => b w (List.mem_cons_of_mem _ hw)
theorem vokL_h {h : HP} {l : List Value} {v : Value} (b : vokL h (v :: l)) : vok h v := b v List.mem_cons_self
theorem vok_get {h : HP} : ∀ (ls : List Value) (k : Nat), vokL h ls → vok h (lget ls k)
  | [], _, _ => trivial
  | v :: t, 0, b => vokL_h b
  | v :: t, k + 1, b => vok_get t k (vokL_t (v := v) b)
/-- what is loaded -/
theorem la_get {G : GX} {loc : Nat → Nat} {la : Array Slot} {n : Nat} {ls : List Value} {k : Nat} {v : Value} (h : lv_has la n (prs G loc 0 ls)) (e : lget ls k = v) (hn : v ≠ .null) : la[k]? = some (.val (cv G loc v)) := by
  have := h.2.2 _ (prs_get ls 0 k e hn)
  rw [Nat.zero_add] at this
  exact this
/-- what is stored (one word) -/
theorem la_set {G : GX} {loc : Nat → Nat} {la : Array Slot} {n : Nat} {ls : List Value} {k : Nat} {x : Value} {h : HP} (hv : vokL h ls) (hl : lv_has la n ((k, cv G loc x) :: (prs G loc 0 ls).filter (fun q => !(q.1 == k) && !(q.1 + 1 == k && q.2.category == 2)))) : lv_has la n (prs G loc 0 (lset ls k x)) := by
  refine lv_fewer hl (fun q hq => ?_)
  rcases prs_lset ls 0 k x q (fun v hv' => (hv v hv').pl) hq with ⟨-, rfl⟩ | ⟨a, b, c⟩
  · rw [Nat.zero_add]
    exact List.mem_cons_self
  · refine List.mem_cons_of_mem _ (List.mem_filter.mpr ⟨a, ?_⟩)
    rw [Nat.zero_add] at b c
    simp only [Bool.and_eq_true, Bool.not_eq_true', beq_eq_false_iff_ne, ne_eq, b, not_false_eq_true, true_and, Bool.and_eq_false_imp, beq_iff_eq]
    exact fun z w => c ⟨z, w⟩
theorem la_set2 {G : GX} {loc : Nat → Nat} {la : Array Slot} {n : Nat} {ls : List Value} {k : Nat} {x : Value} {h : HP} (hv : vokL h ls) (hl : lv_has la n ((k, cv G loc x) :: (prs G loc 0 ls).filter (fun q => !(q.1 == k) && (!(q.1 == k + 1) && !(q.1 + 1 == k && q.2.category == 2))))) : lv_has la n (prs G loc 0 (lset2 ls k x)) := by
  refine lv_fewer hl (fun q hq => ?_)
  have hv2 : vokL h (lset ls (k + 1) .null) := vokL_lset hv trivial
  rcases prs_lset _ 0 k x q (fun v hv' => (hv2 v hv').pl) hq with ⟨-, rfl⟩ | ⟨a, b, c⟩
  · rw [Nat.zero_add]
    exact List.mem_cons_self
  · rcases prs_lset ls 0 (k + 1) .null q (fun v hv' => (hv v hv').pl) a with ⟨z, -⟩ | ⟨a', b', c'⟩
    · exact absurd rfl z
    · refine List.mem_cons_of_mem _ (List.mem_filter.mpr ⟨a', ?_⟩)
      rw [Nat.zero_add] at b c b'
      simp only [Bool.and_eq_true, Bool.not_eq_true', beq_eq_false_iff_ne, ne_eq, b, b', not_false_eq_true, true_and, Bool.and_eq_false_imp, beq_iff_eq]
      exact fun z w => c ⟨z, w⟩
