/-! SOUND 1: what the abstract heap says of the machine's; the judgement X0 over the machine; steps that leave the heap alone -/
set_option maxRecDepth 100000
/-- a run's own numbers: classes and slots; array classes; our cells; the string constants' cells; the script's cell, its length, its ints -/
abbrev GX : Type := va_G × (Nat → ClassId) × (Nat → Prop) × (Nat → Nat) × Nat × Nat × (Nat → Int32)
def gD (G : GX) : va_G := G.1
def gC (G : GX) : Nat → ClassId := G.2.1
def gA (G : GX) : Nat → Prop := G.2.2.1
def gS (G : GX) : Nat → Nat := G.2.2.2.1
def gb (G : GX) : Nat := G.2.2.2.2.1
def gL (G : GX) : Nat := G.2.2.2.2.2.1
def gx (G : GX) : Nat → Int32 := G.2.2.2.2.2.2
def tysG (G : GX) : List (ClassId × FieldType) := [(gC G 1, .int), (gC G 2, .byte), (gC G 3, .boolean), (gC G 4, .long), (gC G 5, .array .int), (gC G 6, .object "LibraryDesk$Thing")]
/-- a reference -/
def cr (G : GX) (loc : Nat → Nat) (a : Nat) : Value := if a = 0 then .null else if strB ≤ a then .ref (gS G (a - strB)) else .ref (loc a)
def cv (G : GX) (loc : Nat → Nat) (v : Value) : Value := match v with
  | .ref a => cr G loc a
  | w => w
def ro (G : GX) (loc : Nat → Nat) (a : Nat) : Option Nat := if a = 0 then none else if strB ≤ a then some (gS G (a - strB)) else some (loc a)
def fv (G : GX) (loc : Nat → Nat) (h : HP) (a : Nat) (q : Nat × Nat) : Value := match q.1 with
  | 0 => .int (fI h q.2 a)
  | 1 => .long (fJ h q.2 a)
  | _ => cr G loc (fR h q.2 a)
/-- what the cell a is, over there -/
def EE (G : GX) (loc : Nat → Nat) (h : HP) (a : Nat) : va_E := match hcls h a with
  | 1 => .inl (gC G 1, hlen h a, .inl (aI h a))
  | 2 => .inl (gC G 2, hlen h a, .inl (aI h a))
  | 3 => .inl (gC G 3, hlen h a, .inl (aI h a))
  | 4 => .inl (gC G 4, hlen h a, .inr (.inl (aJ h a)))
  | 5 => .inl (gC G 5, hlen h a, .inr (.inr (.inr (.inr (fun i => ro G loc (aR h a i))))))
  | 6 => .inl (gC G 6, hlen h a, .inr (.inr (.inr (.inr (fun i => ro G loc (aR h a i))))))
  | c => .inr (clI c, (flT c).map (fv G loc h a))
/-- a reference that leads to a cell, or to nothing -/
def rok (h : HP) (a : Nat) : Prop := a = 0 ∨ a < hsz h ∨ (strB ≤ a ∧ a < strB + 115)
/-- the heap's references lead to cells -/
def HC (h : HP) : Prop := (∀ f a, rok h (fR h f a)) ∧ (∀ a i, rok h (aR h a i)) ∧ (∀ a, hcls h a ≠ 0 → 0 < a ∧ a < hsz h) ∧ 0 < hsz h
/-- the machine's heap H holds h, its cells at loc -/
def HR (G : GX) (loc : Nat → Nat) (h : HP) (H : Heap) : Prop := HC h ∧
  (∀ a, 0 < a → a < hsz h → hcls h a ≠ 7 → va_at (gD G) clT (loc a, EE G loc h a) H ∧ gA G (loc a)) ∧
  (∀ a b, 0 < a → a < hsz h → 0 < b → b < hsz h → loc a = loc b → a = b) ∧
  (∀ a, 0 < a → a < hsz h → hcls h a = 7 → loc a = gb G ∧ hlen h a = gL G ∧ aI h a = gx G)
/-- the string constants -/
def SK (G : GX) (U : State) (H : Heap) : Prop := ∃ adK adV : Nat → Nat, (∀ k, k < 115 → gS G k = adK (dsT.getD k 0)) ∧ vk_S lnT.length lnT byT adK adV (gA G) U H ∧ ∀ q ∈ srT, vk_R q.1 q.2.1 q.2.2.1 (gS G q.2.2.2) U
/-- two statics of the library's -/
def SZ (G : GX) (U : State) (H : Heap) : Prop := va_Z "java/lang/String" "COMPACT_STRINGS" "Z" (.int 1) (gA G) U H ∧ va_Zq "jdk/internal/util/Preconditions" "SIOOBE_FORMATTER" "Ljava/util/function/BiFunction;" (gA G) U H
/-- what stays all through: at the state U with the heap H -/
def KF (G : GX) (U : State) (H : Heap) : Prop :=
  va_K (gD G) clT (tysG G) U ∧ (∀ w ∈ nwT, va_Nw w U) ∧ (∀ q ∈ ncT, va_Nc q.1 q.2 U) ∧ va_AO "LibraryDesk$Thing" U ∧
  vx_Zq Bundle.tN "UNASSIGNED_STACK" Bundle.steD (gA G) U H ∧ vx_Zq Bundle.tN "SUPPRESSED_SENTINEL" Bundle.listD (gA G) U H ∧
  va_X (gb G) (gL G) (gx G) U H ∧ gb G < H.size ∧ ¬ gA G (gb G) ∧ SZ G U H ∧ SK G U H
/-- what a method's body has -/
def FX (k : MI) (p : Program) (s : State) (m : MethodId) (args : Array Value) (meth : Method) (c : Code) (G : GX) : Prop :=
  p.tables.exec = Jvm.exec ∧ c.code = k.2.1 ∧ c.maxLocals = k.2.2.1 ∧ s.vm.findClass k.1.cls = some m.cls ∧ (∀ w ∈ lw_all, w.before args s = true) ∧ meth.sig.returnType = k.2.2.2.1 ∧ meth.locks = false ∧ meth.name = k.1.name ∧
  c.exceptionTable.toList = tableOf k.2.2.2.2 ∧ KF G s s.heap ∧ ∀ q, s.heap.size ≤ q → gA G q
def vok (h : HP) (v : Value) : Prop := match v with
  | .ref a => rok h a
  | .int _ => True
  | .long _ => True
  | .null => True
  | _ => False
def vokL (h : HP) (l : List Value) : Prop := ∀ v ∈ l, vok h v
def prs (G : GX) (loc : Nat → Nat) : Nat → List Value → List (Nat × Value)
  | _, [] => []
  | k, .null :: t => prs G loc (k + 1) t
  | k, v :: t => (k, cv G loc v) :: prs G loc (k + 1) t
def RM (d mc ms : Nat) : Room := { frames := d + 10, cells := mc, slots := ms, locals := 64 * d + 200 }
def QC (G : GX) (loc : Nat → Nat) (sz : Nat) (o : AO) (h' : HP) : Array Value → State → Outcome → State → Prop := fun _ st oc t =>
  (∃ (v : Option Value) (loc' : Nat → Nat), o = .inl v ∧ (∀ a, a < sz → loc' a = loc a) ∧ oc = .returned (v.map (cv G loc')) ∧ HR G loc' h' t.heap) ∧ va_F (gA G) st t
def XC (G : GX) (loc : Nat → Nat) (sz : Nat) (o : AO) (h' : HP) : String → Addr → State → State → Prop := fun E q st t =>
  (∃ (r : Nat) (loc' : Nat → Nat), o = .inr r ∧ (∀ a, a < sz → loc' a = loc a) ∧ q = loc' r ∧ E = exN (hcls h' r) ∧ HR G loc' h' t.heap) ∧ va_F (gA G) st t
def vokO (h : HP) (o : AO) : Prop := match o with
  | .inl (some v) => vok h v
  | .inl none => True
  | .inr r => 0 < r ∧ r < hsz h ∧ inC exT (hcls h r) = true
def WJ (l : Launch) (k : MI) (d pc : Nat) (ls st : List Value) (h : HP) (o : AO) (h' : HP) : Prop :=
  ∀ (p : Program) (e : Env) (s : State) (m : MethodId) (args : Array Value) (below : List Frame) (meth : Method) (c : Code) (G : GX), FX k p s m args meth c G →
  ∀ (loc : Nat → Nat) (H : Heap) (locs : List Loc) (cells slots : Nat) (la : Array Slot), HR G loc h H → va_S (gA G) s.heap H locs → ls.length = k.2.2.1 → vokL h ls → vokL h st → lv_has la k.2.2.1 (prs G loc 0 ls) →
  W p l e (RM d (cells + (hnc h' - hnc h)) (slots + (hns h' - hns h))) s m args below meth c H locs cells slots (vx_MQ below (QC G loc (hsz h) o h') (XC G loc (hsz h) o h') args s (cells + (hnc h' - hnc h)) (slots + (hns h' - hns h)) (gA G)) (F0 m pc la (st.map (cv G loc)))
def SM (l : Launch) (k : MI) (d pc : Nat) (ls st : List Value) (h : HP) (o : AO) (h' : HP) : Prop :=
  (hnc h ≤ hnc h' ∧ hns h ≤ hns h' ∧ hsz h ≤ hsz h') ∧ (hsz h' ≤ strB → (HC h → vokL h ls → vokL h st → HC h' ∧ vokO h' o) ∧ WJ l k d pc ls st h o h')
def X0 (l : Launch) : XJ := fun d m pc ls st h Q => ∃ (o : AO) (h' : HP), SM l (miT m) d pc ls st h o h' ∧ Q o h'
/-- the instruction f at pc of the method m is sound -/
def SS (l : Launch) (m pc : Nat) (f : SF) : Prop := ∀ (d : Nat) (ls st : List Value) (h : HP) (Q : Tt) (C' : Ct) (K' : Kt) (T' : Tt),
  (∀ m' as h P, C' m' as h P → cX pg (X0 l) d m' as h P) → (∀ pc ls st h, K' pc ls st h → X0 l d m pc ls st h Q) → (∀ o h, T' o h → Q o h) → f C' K' T' ls st h → X0 l d m pc ls st h Q
theorem lv_fewer {la : Array Slot} {n : Nat} {l l' : List (Nat × Value)} (h : lv_has la n l) (hs : ∀ q ∈ l', q ∈ l) : lv_has la n l' := ⟨h.1, h.2.1, fun q hq => h.2.2 q (hs q hq)⟩
/-- a step that leaves the heap alone -/
theorem SM.pure {l : Launch} {k : MI} {d pc nx : Nat} {ls ls' st st' : List Value} {h h' : HP} {o : AO} (H0 : SM l k d nx ls' st' h o h')
    (hlen : ls.length = k.2.2.1 → ls'.length = k.2.2.1) (hv : HC h → vokL h ls → vokL h st → vokL h ls' ∧ vokL h st')
    (row : ∀ (p : Program) (e : Env) (s : State) (m : MethodId) (args : Array Value) (below : List Frame) (meth : Method) (c : Code) (G : GX), FX k p s m args meth c G →
      ∀ (R : Room) (Q : State → Prop) (loc : Nat → Nat) (H : Heap) (locs : List Loc) (cells slots : Nat) (la : Array Slot), HR G loc h H → va_S (gA G) s.heap H locs → ls.length = k.2.2.1 → vokL h ls → vokL h st → hsz h ≤ strB → lv_has la k.2.2.1 (prs G loc 0 ls) →
      (∀ la' : Array Slot, lv_has la' k.2.2.1 (prs G loc 0 ls') → W p l e R s m args below meth c H locs cells slots Q (F0 m nx la' (st'.map (cv G loc)))) → W p l e R s m args below meth c H locs cells slots Q (F0 m pc la (st.map (cv G loc)))) :
    SM l k d pc ls st h o h' := by
  obtain ⟨hm, hw⟩ := H0
  refine ⟨hm, fun hz => ?_⟩
  obtain ⟨hvo, hw⟩ := hw hz
  refine ⟨fun z a b => hvo z (hv z a b).1 (hv z a b).2, ?_⟩
  intro p e s m args below meth c G F loc H locs cells slots la hr hS hl v1 v2 hla
  refine row p e s m args below meth c G F _ _ loc H locs cells slots la hr hS hl v1 v2 (Nat.le_trans hm.2.2 hz) hla (fun la' hla' => ?_)
  exact hw p e s m args below meth c G F loc H locs cells slots la' hr hS (hlen hl) (hv hr.1 v1 v2).1 (hv hr.1 v1 v2).2 hla'
