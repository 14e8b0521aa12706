/-! SOUND 31: fewer locals known; all methods -/
set_option maxRecDepth 100000
theorem lle_spec {G : GX} {loc : Nat → Nat} {h : HP} : ∀ (ls' ls : List Value), lle ls' ls → ls'.length = ls.length ∧ (vokL h ls → vokL h ls') ∧ ∀ (k : Nat) (q : Nat × Value), q ∈ prs G loc k ls' → q ∈ prs G loc k ls
  | [], [], _ => ⟨rfl, fun z => z, fun _ _ z => z⟩
  | [], _ :: _, z => z.elim
  | v :: _, [], z => by cases v <;> exact z.elim
  | v :: t, v' :: t', z => by
    have hz : (v = .null ∨ v = v') ∧ lle t t' := by
      cases v <;> first | exact ⟨Or.inl rfl, z⟩ | exact ⟨Or.inr z.1, z.2⟩
    obtain ⟨e, z⟩ := hz
    obtain ⟨i1, i2, i3⟩ := lle_spec (G := G) (loc := loc) (h := h) t t' z
    refine ⟨congrArg Nat.succ i1, fun hv => vokL_c ?_ (i2 (vokL_t hv)), fun k q hq => ?_⟩
    · rcases e with rfl | rfl
      · trivial
      · exact vokL_h hv
    · rw [prs_cons] at hq ⊢
      rcases hq with ⟨a, b⟩ | hq
      · rcases e with rfl | rfl
        · exact absurd rfl a
        · exact Or.inl ⟨a, b⟩
      · exact Or.inr (i3 _ _ hq)
theorem X0_lle {l : Launch} {d m pc : Nat} {ls ls' st : List Value} {h : HP} {Q : Tt} (hl : lle ls' ls) (hx : X0 l d m pc ls' st h Q) : X0 l d m pc ls st h Q := by
  obtain ⟨o, h', ⟨hm, hw⟩, hq⟩ := hx
  refine ⟨o, h', ⟨hm, fun hz => ?_⟩, hq⟩
  obtain ⟨h1, h2⟩ := hw hz
  refine ⟨fun z a b => ?_, ?_⟩
  · obtain ⟨e1, e2, -⟩ := lle_spec (G := (default : GX)) (loc := id) (h := h) ls' ls hl
    exact h1 z (e2 a) b
  · intro p e s m args below meth c G F loc H locs cells slots la hr hS hlen v1 v2 hla
    obtain ⟨e1, e2, e3⟩ := lle_spec (G := G) (loc := loc) (h := h) ls' ls hl
    exact h2 p e s m args below meth c G F loc H locs cells slots la hr hS (e1.trans hlen) (e2 v1) v2 (lv_fewer hla (fun q hq => e3 0 q hq))
def AP (l : Launch) (G : PG) : Prop := ∀ (m n : Nat) (T : CT), G m = some (n, T) → At l m T
theorem ap_l {l : Launch} {k n : Nat} {t : CT} (h : At l k t) : AP l (pg_l k n t) := by
  intro m n' T hq
  unfold pg_l at hq
  cases hb : Nat.beq m k with
  | false => rw [hb] at hq; cases hq
  | true =>
    rw [hb] at hq
    cases hq
    rw [Nat.eq_of_beq_eq_true hb]
    exact h
theorem ap_b {l : Launch} {k : Nat} {L R : PG} (h1 : AP l L) (h2 : AP l R) : AP l (pg_b k L R) := by
  intro m n T hq
  unfold pg_b at hq
  cases hb : Nat.blt m k with
  | false => rw [hb] at hq; exact h2 m n T hq
  | true => rw [hb] at hq; exact h1 m n T hq
theorem ap_clo {l : Launch} (h : AP l pg) : Clo pg (X0 l) :=
  ⟨fun d m pc ls st h0 Q n T q hG hT C' K' T' hC hK hT' H => h m n T hG pc q hT d ls st h0 Q C' K' T' hC hK hT' H, fun _ _ _ _ _ _ _ _ hl hx => X0_lle hl hx⟩
