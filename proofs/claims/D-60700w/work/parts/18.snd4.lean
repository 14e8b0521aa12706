/-! SOUND 4: loads, stores, switches, returns -/
set_option maxRecDepth 100000
section
variable {l : Launch} {m pc : Nat} {cc : ByteArray}
/-- a load of the frame's place k -/
def WL (cc : ByteArray) (pc nx k : Nat) (v : Value) : Prop := ∀ (p : Program) (l : Launch) (e : Env) (R : Room) (s : State) (m : MethodId) (args : Array Value) (below : List Frame) (meth : Method) (c : Code) (H : Heap) (locs : List Loc) (cells slots : Nat) (Q : State → Prop) (la : Array Slot) (r : List Value),
  la[k]? = some (.val v) → p.tables.exec = Jvm.exec → c.code = cc → W p l e R s m args below meth c H locs cells slots Q (F0 m nx la (v :: r)) → W p l e R s m args below meth c H locs cells slots Q (F0 m pc la r)
theorem ss_il {k nx : Nat} (eb : (miT m).2.1 = cc) (hw : ∀ x, WL cc pc nx k (.int x)) : SS l m pc (op_il k nx) := by
  intro d ls st h Q C' K' T' hC hK hT H
  unfold op_il at H
  split at H
  · rename_i x e
    obtain ⟨o, h', hs, hq⟩ := hK _ _ _ _ H
    refine ⟨o, h', SM.pure hs (fun z => z) (fun _ a b => ⟨a, vokL_c trivial b⟩) ?_, hq⟩
    intro p e' s mm args below meth c G F R QQ loc HH locs cells slots la hr hS hl v1 v2 hz hla kk
    exact hw x p l e' R s mm args below meth c HH locs cells slots QQ la _ (la_get hla e (by simp)) F.1 (F.2.1.trans eb) (kk la hla)
  · exact H.elim
theorem ss_ll {k nx : Nat} (eb : (miT m).2.1 = cc) (hw : ∀ x, WL cc pc nx k (.long x)) : SS l m pc (op_ll k nx) := by
  intro d ls st h Q C' K' T' hC hK hT H
  unfold op_ll at H
  split at H
  · rename_i x e
    obtain ⟨o, h', hs, hq⟩ := hK _ _ _ _ H
    refine ⟨o, h', SM.pure hs (fun z => z) (fun _ a b => ⟨a, vokL_c trivial b⟩) ?_, hq⟩
    intro p e' s mm args below meth c G F R QQ loc HH locs cells slots la hr hS hl v1 v2 hz hla kk
    exact hw x p l e' R s mm args below meth c HH locs cells slots QQ la _ (la_get hla e (by simp)) F.1 (F.2.1.trans eb) (kk la hla)
  · exact H.elim
theorem ss_al {k nx : Nat} (eb : (miT m).2.1 = cc) (hw : ∀ x, WL cc pc nx k (.ref x)) (hn : WL cc pc nx k .null) : SS l m pc (op_al k nx) := by
  intro d ls st h Q C' K' T' hC hK hT H
  unfold op_al at H
  split at H
  · rename_i x e
    obtain ⟨o, h', hs, hq⟩ := hK _ _ _ _ H
    refine ⟨o, h', SM.pure hs (fun z => z) (fun _ a b => ⟨a, vokL_c (by have := vok_get _ k a; rw [e] at this; exact this) b⟩) ?_, hq⟩
    intro p e' s mm args below meth c G F R QQ loc HH locs cells slots la hr hS hl v1 v2 hz hla kk
    have hg := la_get hla e (by simp)
    have kk := kk la hla
    rcases cr_cases G loc x with ⟨-, z⟩ | ⟨-, q, z⟩
    · have z : cv G loc (.ref x) = .null := z
      rw [z] at hg
      simp only [List.map_cons, z] at kk
      exact hn p l e' R s mm args below meth c HH locs cells slots QQ la _ hg F.1 (F.2.1.trans eb) kk
    · have z : cv G loc (.ref x) = .ref q := z
      rw [z] at hg
      simp only [List.map_cons, z] at kk
      exact hw q p l e' R s mm args below meth c HH locs cells slots QQ la _ hg F.1 (F.2.1.trans eb) kk
  · exact H.elim
theorem ss_iload {k : Nat} (eb : (miT m).2.1 = cc) (hd : decode cc pc = .ok (.iload k, 2)) : SS l m pc (op_il k (pc + 2)) := ss_il eb fun x p l e R s mm args below meth c Hh locs cells slots Q la r hl hx hb kk => lv_iload hx hb hd hl kk
theorem ss_iload_n {k : Nat} {j : Fin 4} (eb : (miT m).2.1 = cc) (hd : decode cc pc = .ok (.iload_n j, 1)) (hj : (j : Nat) = k) : SS l m pc (op_il k (pc + 1)) := ss_il eb fun x p l e R s mm args below meth c Hh locs cells slots Q la r hl hx hb kk => lv_iload_n hx hb hd hj hl kk
theorem ss_lload {k : Nat} (eb : (miT m).2.1 = cc) (hd : decode cc pc = .ok (.lload k, 2)) : SS l m pc (op_ll k (pc + 2)) := ss_ll eb fun x p l e R s mm args below meth c Hh locs cells slots Q la r hl hx hb kk => lv_lload hx hb hd hl kk
theorem ss_lload_n {k : Nat} {j : Fin 4} (eb : (miT m).2.1 = cc) (hd : decode cc pc = .ok (.lload_n j, 1)) (hj : (j : Nat) = k) : SS l m pc (op_ll k (pc + 1)) := ss_ll eb fun x p l e R s mm args below meth c Hh locs cells slots Q la r hl hx hb kk => lv_lload_n hx hb hd hj hl kk
theorem ss_aload {k : Nat} (eb : (miT m).2.1 = cc) (hd : decode cc pc = .ok (.aload k, 2)) : SS l m pc (op_al k (pc + 2)) := ss_al eb (fun x p l e R s mm args below meth c Hh locs cells slots Q la r hl hx hb kk => lv_aload hx hb hd hl kk) (fun p l e R s mm args below meth c Hh locs cells slots Q la r hl hx hb kk => lv_aloadN hx hb hd hl kk)
theorem ss_aload_n {k : Nat} {j : Fin 4} (eb : (miT m).2.1 = cc) (hd : decode cc pc = .ok (.aload_n j, 1)) (hj : (j : Nat) = k) : SS l m pc (op_al k (pc + 1)) := ss_al eb (fun x p l e R s mm args below meth c Hh locs cells slots Q la r hl hx hb kk => lv_aload_n hx hb hd hj hl kk) (fun p l e R s mm args below meth c Hh locs cells slots Q la r hl hx hb kk => lv_aload_nN hx hb hd hj hl kk)
/-- a store of one word -/
def WT (cc : ByteArray) (pc nx k : Nat) (v : Value) : Prop := ∀ (p : Program) (l : Launch) (e : Env) (R : Room) (s : State) (m : MethodId) (args : Array Value) (below : List Frame) (meth : Method) (c : Code) (H : Heap) (locs : List Loc) (cells slots : Nat) (Q : State → Prop) (la : Array Slot) (r : List Value) (n : Nat) (lv : List (Nat × Value)),
  k < n → lv_has la n lv → p.tables.exec = Jvm.exec → c.code = cc → (∀ la' : Array Slot, lv_has la' n ((k, v) :: lv.filter (fun q => !(q.1 == k) && !(q.1 + 1 == k && q.2.category == 2))) → W p l e R s m args below meth c H locs cells slots Q (F0 m nx la' r)) → W p l e R s m args below meth c H locs cells slots Q (F0 m pc la (v :: r))
def WT2 (cc : ByteArray) (pc nx k : Nat) (v : Value) : Prop := ∀ (p : Program) (l : Launch) (e : Env) (R : Room) (s : State) (m : MethodId) (args : Array Value) (below : List Frame) (meth : Method) (c : Code) (H : Heap) (locs : List Loc) (cells slots : Nat) (Q : State → Prop) (la : Array Slot) (r : List Value) (n : Nat) (lv : List (Nat × Value)),
  k + 1 < n → lv_has la n lv → p.tables.exec = Jvm.exec → c.code = cc → (∀ la' : Array Slot, lv_has la' n ((k, v) :: lv.filter (fun q => !(q.1 == k) && (!(q.1 == k + 1) && !(q.1 + 1 == k && q.2.category == 2)))) → W p l e R s m args below meth c H locs cells slots Q (F0 m nx la' r)) → W p l e R s m args below meth c H locs cells slots Q (F0 m pc la (v :: r))
theorem ss_is {k nx n : Nat} (eb : (miT m).2.1 = cc) (en : (miT m).2.2.1 = n) (hk : k < n) (hw : ∀ x, WT cc pc nx k (.int x)) : SS l m pc (op_is k nx) := by
  intro d ls st h Q C' K' T' hC hK hT H
  unfold op_is at H
  split at H
  · rename_i x st
    obtain ⟨o, h', hs, hq⟩ := hK _ _ _ _ H
    refine ⟨o, h', SM.pure hs (fun z => by rw [lset_len]; exact z) (fun _ a b => ⟨vokL_lset a trivial, vokL_t b⟩) ?_, hq⟩
    intro p e' s mm args below meth c G F R QQ loc HH locs cells slots la hr hS hl v1 v2 hz hla kk
    exact hw x p l e' R s mm args below meth c HH locs cells slots QQ la _ _ _ (by rw [en]; exact hk) hla F.1 (F.2.1.trans eb) (fun la' hl' => kk la' (la_set (x := .int x) v1 hl'))
  · exact H.elim
theorem ss_isn {k nx n : Nat} (eb : (miT m).2.1 = cc) (en : (miT m).2.2.1 = n) (hk : k < n) (hw : ∀ x, WT cc pc nx k (.int x)) : SS l m pc (op_isn k nx) := by
  intro d ls st h Q C' K' T' hC hK hT H
  refine ss_is eb en hk hw d ls st h Q C' K' T' hC hK hT ?_
  unfold op_isn at H
  unfold op_is
  split at H
  · exact H _ rfl
  · exact H.elim
theorem ss_ls {k nx n : Nat} (eb : (miT m).2.1 = cc) (en : (miT m).2.2.1 = n) (hk : k + 1 < n) (hw : ∀ x, WT2 cc pc nx k (.long x)) : SS l m pc (op_ls k nx) := by
  intro d ls st h Q C' K' T' hC hK hT H
  unfold op_ls at H
  split at H
  · rename_i x st
    obtain ⟨o, h', hs, hq⟩ := hK _ _ _ _ H
    refine ⟨o, h', SM.pure hs (fun z => by rw [lset2_len]; exact z) (fun _ a b => ⟨vokL_lset (vokL_lset a trivial) trivial, vokL_t b⟩) ?_, hq⟩
    intro p e' s mm args below meth c G F R QQ loc HH locs cells slots la hr hS hl v1 v2 hz hla kk
    exact hw x p l e' R s mm args below meth c HH locs cells slots QQ la _ _ _ (by rw [en]; exact hk) hla F.1 (F.2.1.trans eb) (fun la' hl' => kk la' (la_set2 (x := .long x) v1 hl'))
  · exact H.elim
theorem ss_lsn {k nx n : Nat} (eb : (miT m).2.1 = cc) (en : (miT m).2.2.1 = n) (hk : k + 1 < n) (hw : ∀ x, WT2 cc pc nx k (.long x)) : SS l m pc (op_lsn k nx) := by
  intro d ls st h Q C' K' T' hC hK hT H
  refine ss_ls eb en hk hw d ls st h Q C' K' T' hC hK hT ?_
  unfold op_lsn at H
  unfold op_ls
  split at H
  · exact H _ rfl
  · exact H.elim
theorem ss_as {k nx n : Nat} (eb : (miT m).2.1 = cc) (en : (miT m).2.2.1 = n) (hk : k < n) (hw : ∀ x, WT cc pc nx k (.ref x)) (hn : WT cc pc nx k .null) : SS l m pc (op_as k nx) := by
  intro d ls st h Q C' K' T' hC hK hT H
  unfold op_as at H
  split at H
  · rename_i x st
    obtain ⟨o, h', hs, hq⟩ := hK _ _ _ _ H
    refine ⟨o, h', SM.pure hs (fun z => by rw [lset_len]; exact z) (fun _ a b => ⟨vokL_lset a (vokL_h b), vokL_t b⟩) ?_, hq⟩
    intro p e' s mm args below meth c G F R QQ loc HH locs cells slots la hr hS hl v1 v2 hz hla kk
    have kk2 : ∀ la' : Array Slot, lv_has la' (miT m).2.2.1 ((k, cv G loc (.ref x)) :: (prs G loc 0 ls).filter (fun q => !(q.1 == k) && !(q.1 + 1 == k && q.2.category == 2))) → W p l e' R s mm args below meth c HH locs cells slots QQ (F0 mm nx la' (st.map (cv G loc))) := fun la' hl' => kk la' (la_set (x := .ref x) v1 hl')
    rcases cr_cases G loc x with ⟨-, z⟩ | ⟨-, q, z⟩
    · have z : cv G loc (.ref x) = .null := z
      simp only [List.map_cons, z] at kk2 ⊢
      exact hn p l e' R s mm args below meth c HH locs cells slots QQ la _ _ _ (by rw [en]; exact hk) hla F.1 (F.2.1.trans eb) kk2
    · have z : cv G loc (.ref x) = .ref q := z
      simp only [List.map_cons, z] at kk2 ⊢
      exact hw q p l e' R s mm args below meth c HH locs cells slots QQ la _ _ _ (by rw [en]; exact hk) hla F.1 (F.2.1.trans eb) kk2
  · exact H.elim
theorem ss_istore {k n : Nat} (eb : (miT m).2.1 = cc) (en : (miT m).2.2.1 = n) (hk : k < n) (hd : decode cc pc = .ok (.istore k, 2)) : SS l m pc (op_is k (pc + 2)) := ss_is eb en hk fun x p l e R s mm args below meth c Hh locs cells slots Q la r n lv hn hl hx hb kk => lv_istore hx hb hd hl hn rfl kk
theorem ss_istore_n {k n : Nat} {j : Fin 4} (eb : (miT m).2.1 = cc) (en : (miT m).2.2.1 = n) (hk : k < n) (hd : decode cc pc = .ok (.istore_n j, 1)) (hj : (j : Nat) = k) : SS l m pc (op_is k (pc + 1)) := ss_is eb en hk fun x p l e R s mm args below meth c Hh locs cells slots Q la r n lv hn hl hx hb kk => lv_istore_n hx hb hd hj hl hn rfl kk
theorem ss_istoreN {k n : Nat} (eb : (miT m).2.1 = cc) (en : (miT m).2.2.1 = n) (hk : k < n) (hd : decode cc pc = .ok (.istore k, 2)) : SS l m pc (op_isn k (pc + 2)) := ss_isn eb en hk fun x p l e R s mm args below meth c Hh locs cells slots Q la r n lv hn hl hx hb kk => lv_istore hx hb hd hl hn rfl kk
theorem ss_istore_nN {k n : Nat} {j : Fin 4} (eb : (miT m).2.1 = cc) (en : (miT m).2.2.1 = n) (hk : k < n) (hd : decode cc pc = .ok (.istore_n j, 1)) (hj : (j : Nat) = k) : SS l m pc (op_isn k (pc + 1)) := ss_isn eb en hk fun x p l e R s mm args below meth c Hh locs cells slots Q la r n lv hn hl hx hb kk => lv_istore_n hx hb hd hj hl hn rfl kk
theorem ss_lstore {k n : Nat} (eb : (miT m).2.1 = cc) (en : (miT m).2.2.1 = n) (hk : k + 1 < n) (hd : decode cc pc = .ok (.lstore k, 2)) : SS l m pc (op_ls k (pc + 2)) := ss_ls eb en hk fun x p l e R s mm args below meth c Hh locs cells slots Q la r n lv hn hl hx hb kk => lv_lstore hx hb hd hl hn rfl kk
theorem ss_lstore_n {k n : Nat} {j : Fin 4} (eb : (miT m).2.1 = cc) (en : (miT m).2.2.1 = n) (hk : k + 1 < n) (hd : decode cc pc = .ok (.lstore_n j, 1)) (hj : (j : Nat) = k) : SS l m pc (op_ls k (pc + 1)) := ss_ls eb en hk fun x p l e R s mm args below meth c Hh locs cells slots Q la r n lv hn hl hx hb kk => lv_lstore_n hx hb hd hj hl hn rfl kk
theorem ss_lstoreN {k n : Nat} (eb : (miT m).2.1 = cc) (en : (miT m).2.2.1 = n) (hk : k + 1 < n) (hd : decode cc pc = .ok (.lstore k, 2)) : SS l m pc (op_lsn k (pc + 2)) := ss_lsn eb en hk fun x p l e R s mm args below meth c Hh locs cells slots Q la r n lv hn hl hx hb kk => lv_lstore hx hb hd hl hn rfl kk
theorem ss_lstore_nN {k n : Nat} {j : Fin 4} (eb : (miT m).2.1 = cc) (en : (miT m).2.2.1 = n) (hk : k + 1 < n) (hd : decode cc pc = .ok (.lstore_n j, 1)) (hj : (j : Nat) = k) : SS l m pc (op_lsn k (pc + 1)) := ss_lsn eb en hk fun x p l e R s mm args below meth c Hh locs cells slots Q la r n lv hn hl hx hb kk => lv_lstore_n hx hb hd hj hl hn rfl kk
theorem ss_astore {k n : Nat} (eb : (miT m).2.1 = cc) (en : (miT m).2.2.1 = n) (hk : k < n) (hd : decode cc pc = .ok (.astore k, 2)) : SS l m pc (op_as k (pc + 2)) := ss_as eb en hk (fun x p l e R s mm args below meth c Hh locs cells slots Q la r n lv hn hl hx hb kk => lv_astore hx hb hd hl hn rfl kk) (fun p l e R s mm args below meth c Hh locs cells slots Q la r n lv hn hl hx hb kk => lv_astoreN hx hb hd hl hn rfl kk)
theorem ss_astore_n {k n : Nat} {j : Fin 4} (eb : (miT m).2.1 = cc) (en : (miT m).2.2.1 = n) (hk : k < n) (hd : decode cc pc = .ok (.astore_n j, 1)) (hj : (j : Nat) = k) : SS l m pc (op_as k (pc + 1)) := ss_as eb en hk (fun x p l e R s mm args below meth c Hh locs cells slots Q la r n lv hn hl hx hb kk => lv_astore_n hx hb hd hj hl hn rfl kk) (fun p l e R s mm args below meth c Hh locs cells slots Q la r n lv hn hl hx hb kk => lv_astore_nN hx hb hd hj hl hn rfl kk)
theorem ss_iinc {k n : Nat} {z : Int} {v : Int32} (eb : (miT m).2.1 = cc) (en : (miT m).2.2.1 = n) (hk : k < n) (hd : decode cc pc = .ok (.iinc k z, 3)) (hz0 : Int32.ofInt z = v) : SS l m pc (op_inc k v (pc + 3)) := by
  intro d ls st h Q C' K' T' hC hK hT H
  unfold op_inc at H
  split at H
  · rename_i x e
    obtain ⟨o, h', hs, hq⟩ := hK _ _ _ _ H
    refine ⟨o, h', SM.pure hs (fun z => by rw [lset_len]; exact z) (fun _ a b => ⟨vokL_lset a trivial, b⟩) ?_, hq⟩
    intro p e' s mm args below meth c G F R QQ loc HH locs cells slots la hr hS hl v1 v2 hz hla kk
    obtain ⟨i, hi⟩ := List.getElem?_of_mem (prs_get (G := G) (loc := loc) ls 0 k e (by simp))
    rw [Nat.zero_add] at hi
    exact lv_iinc (v := x + v) F.1 (F.2.1.trans eb) hd hla hi (by rw [hz0]) (by rw [en]; exact hk) rfl (fun la' hl' => kk la' (la_set (x := .int (x + v)) v1 hl'))
  · exact H.elim
end
