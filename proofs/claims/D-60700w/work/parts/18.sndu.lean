/-! SOUND 30: length, charAt and indexOf of a constant -/
set_option maxRecDepth 100000
theorem stx_len : ∀ k, k < 115 → (stx k).length = sLn k ∧ 0 < sLn k ∧ sLn k < 200 := by decide +kernel
theorem stx_by : ∀ k, k < 115 → ∀ j, j < sLn k → sBy k j = Int32.ofNat ((stx k).getD j 0) ∧ (stx k).getD j 0 < 128 := by decide +kernel
theorem chr_all : ∀ n, n < 256 → ((Int32.ofNat n &&& 255).toUInt32 % 65536).toInt32 = Int32.ofNat n ∧ (Int32.ofNat n).toUInt32.toUInt16.toUInt32.toInt32 = Int32.ofNat n ∧ (n < 128 → (Int32.ofNat n).toInt8.toInt32 = Int32.ofNat n) ∧ (¬ n < 128 → (Int32.ofNat n).toInt8.toInt32 < 0) := by decide +kernel
theorem nar_c {w : Int32} (h : w.toUInt32.toUInt16.toUInt32.toInt32 = w) : narrow .char (.int w) = .int w := congrArg Value.int h
theorem canE_n {x : Int32} (h : ¬ canE x = 0) : ∃ n, n < 256 ∧ x = Int32.ofNat n := by
  unfold canE at h
  by_cases h0 : x < 0
  · exact absurd (if_pos h0) h
  rw [if_neg h0] at h
  by_cases h1 : (255 : Int32) < x
  · exact absurd (if_pos h1) h
  have h0 : ¬ x.toInt < 0 := fun z => h0 (Int32.lt_iff_toInt_lt.mpr (by rw [show (0 : Int32).toInt = 0 by decide]; exact z))
  have h1 : ¬ 255 < x.toInt := fun z => h1 (Int32.lt_iff_toInt_lt.mpr (by rw [show (255 : Int32).toInt = 255 by decide]; exact z))
  refine ⟨x.toInt.toNat, by omega, ?_⟩
  apply Int32.toInt_inj.mp
  rw [Int32.toInt_ofNat_of_lt (by omega)]
  omega
theorem i32_nat {a b : Nat} (ha : a < 2 ^ 31) (hb : b < 2 ^ 31) (h : Int32.ofNat a = Int32.ofNat b) : a = b := by
  have := congrArg Int32.toInt h
  rw [Int32.toInt_ofNat_of_lt ha, Int32.toInt_ofNat_of_lt hb] at this
  omega
theorem sidx_ixn {f : Nat → Int32} {n : Nat} (hn : n < 256) : ∀ (l : List Nat) (k : Nat), (∀ j, j < l.length → f (k + j) = Int32.ofNat (l.getD j 0) ∧ l.getD j 0 < 128) → sidx l (Int32.ofNat n) k = ixn f (Int32.ofNat n).toInt8.toInt32 l.length k
  | [], _, _ => rfl
  | x :: t, k, h => by
    obtain ⟨h1, h2⟩ := h 0 (Nat.zero_lt_succ _)
    have h1 : f k = Int32.ofNat x := h1
    have h2 : x < 128 := h2
    have ih := sidx_ixn hn t (k + 1) (fun j hj => by
      have := h (j + 1) (Nat.succ_lt_succ hj)
      rw [show k + 1 + j = k + (j + 1) by omega]
      exact this)
    show (if Int32.ofNat n = Int32.ofNat x then Int32.ofNat k else sidx t (Int32.ofNat n) (k + 1)) = (if f k = (Int32.ofNat n).toInt8.toInt32 then Int32.ofNat k else ixn f (Int32.ofNat n).toInt8.toInt32 t.length (k + 1))
    obtain ⟨-, -, q3, q4⟩ := chr_all n hn
    by_cases e : n = x
    · subst e
      rw [if_pos rfl, h1, q3 h2, if_pos rfl]
    · rw [if_neg (fun z => e (i32_nat (by omega) (by omega) z)), ih, if_neg]
      intro z
      rw [h1] at z
      by_cases h128 : n < 128
      · rw [q3 h128] at z
        exact e (i32_nat (by omega) (by omega) z.symm)
      · have := q4 h128
        rw [← z] at this
        have := Int32.lt_iff_toInt_lt.mp this
        rw [Int32.toInt_ofNat_of_lt (by omega), show (0 : Int32).toInt = 0 by decide] at this
        omega
theorem sidx_no {c : Int32} (hc : canE c = 0) : ∀ (l : List Nat) (k : Nat), (∀ j, j < l.length → l.getD j 0 < 128) → sidx l c k = -1
  | [], _, _ => rfl
  | x :: t, k, h => by
    have h2 : x < 128 := h 0 (Nat.zero_lt_succ _)
    show (if c = Int32.ofNat x then Int32.ofNat k else sidx t c (k + 1)) = -1
    rw [if_neg, sidx_no hc t (k + 1) (fun j hj => h (j + 1) (Nat.succ_lt_succ hj))]
    intro e
    have : ∀ n, n < 128 → ¬ canE (Int32.ofNat n) = 0 := by decide +kernel
    rw [e] at hc
    exact this x h2 hc
theorem ixL_sidx {k : Nat} (hk : k < 115) (c : Int32) : ixL (sBy k) c (sLn k) = sidx (stx k) c 0 := by
  obtain ⟨e1, e2, e3⟩ := stx_len k hk
  unfold ixL
  by_cases hc : canE c = 0
  · rw [if_pos hc, sidx_no hc _ _ (fun j hj => (stx_by k hk j (by rw [← e1]; exact hj)).2)]
  · rw [if_neg hc]
    obtain ⟨n, hn, rfl⟩ := canE_n hc
    rw [sidx_ixn hn (stx k) 0 (fun j hj => by rw [Nat.zero_add]; exact stx_by k hk j (by rw [← e1]; exact hj)), e1]
theorem SM.pureC {l : Launch} {k : MI} {d pc nx : Nat} {ls st st' : List Value} {h h' : HP} {o : AO} (H0 : SM l k d nx ls st' h o h') (hv : vokL h st → vokL h st')
    (row : ∀ (p : Program) (e : Env) (s : State) (m : MethodId) (args : Array Value) (below : List Frame) (meth : Method) (c : Code) (G : GX), FX k p s m args meth c G →
      ∀ (R : Room) (Q : State → Prop) (loc : Nat → Nat) (H : Heap) (locs : List Loc) (cells slots : Nat) (la : Array Slot), va_S (gA G) s.heap H locs → vokL h st → hsz h ≤ strB → la.size = k.2.2.1 → 10 ≤ R.frames ∧ 200 ≤ R.locals → cells ≤ R.cells ∧ slots ≤ R.slots →
      (W p l e R s m args below meth c H locs cells slots Q (F0 m nx la (st'.map (cv G loc)))) → W p l e R s m args below meth c H locs cells slots Q (F0 m pc la (st.map (cv G loc)))) :
    SM l k d pc ls st h o h' := by
  obtain ⟨hm, hw⟩ := H0
  refine ⟨hm, fun hz => ?_⟩
  obtain ⟨hvo, hw⟩ := hw hz
  refine ⟨fun z a b => hvo z a (hv b), ?_⟩
  intro p e s m args below meth c G F loc H locs cells slots la hr hS hl v1 v2 hla
  refine row p e s m args below meth c G F _ _ loc H locs cells slots la hS v2 (Nat.le_trans hm.2.2 hz) hla.1 ⟨by show 10 ≤ d + 10; omega, by show 200 ≤ 64 * d + 200; omega⟩ ⟨Nat.le_add_right _ _, Nat.le_add_right _ _⟩ ?_
  exact hw p e s m args below meth c G F loc H locs cells slots la hr hS hl v1 (hv v2) hla
theorem vok_s {h : HP} {a : Nat} (hz : hsz h ≤ strB) (hv : vok h (.ref a)) (ha : strB ≤ a) : ∃ k, k < 115 ∧ a = strB + k := by
  have hB : 0 < strB := by decide
  rcases hv with z | z | z
  · omega
  · omega
  · exact ⟨a - strB, by omega, by omega⟩
section
variable {l : Launch} {m pc idx : Nat} {cc : ByteArray} {own : String}
theorem ss_slen (eb : (miT m).2.1 = cc) (eo : (miT m).1.cls = own) (hd : decode cc pc = .ok (.invokevirtual idx, 3)) (w1 : Cond.methodLink own idx yLen ∈ lw_all) : SS l m pc (op_slen stx (pc + 3)) := by
  intro d ls st h Q C' K' T' hC hK hT H
  unfold op_slen at H
  split at H
  · rename_i a r
    cases hk8 : stk 8 r with
    | false => rw [hk8] at H; exact H.elim
    | true =>
    rw [hk8] at H
    simp only [cond_true] at H
    obtain ⟨ha, H⟩ := H
    obtain ⟨o, h', hs, hq⟩ := hK _ _ _ _ H
    refine ⟨o, h', SM.pureC hs (fun z => vokL_c trivial (vokL_t z)) ?_, hq⟩
    intro p e s mm args below meth c0 G F R QQ loc HH locs cells slots la hS v2 hz hla hro hcs kk
    obtain ⟨k, hk, rfl⟩ := vok_s hz (vokL_h v2) ha
    obtain ⟨e1, e2, e3⟩ := stx_len k hk
    rw [Nat.add_sub_cancel_left, e1] at kk
    obtain ⟨t0, hO, -, -, -⟩ := F.kf.str hk; have hrec : ∃ cell : Cell, HH[gS G k]? = some cell ∧ cell.vm.isStatics = false ∧ s.vm.findClass Sj = some cell.cls := by obtain ⟨cell, h1, h2, h3, -⟩ := hO.kept hS.2.1; exact ⟨cell, h1, h2, h3⟩
    rw [List.map_cons, show cv G loc (.ref (strB + k)) = .ref (gS G k) from cr_str]
    exact jV (As2 := []) (n := 0) ⟨F.1, F.2.1.trans eb, F.2.2.1, by rw [← eo]; exact F.2.2.2.1, F.hts⟩ hrec (mj_len F.kf hS hk) rfl w1 q3513 q3514 q527 q3515 ⟨by decide, by decide, by decide +kernel⟩ rfl (by omega) (by omega) hcs hla (stk_cat r 8 hk8) hd kk
  · exact H.elim
theorem ss_schr (eb : (miT m).2.1 = cc) (eo : (miT m).1.cls = own) (hd : decode cc pc = .ok (.invokevirtual idx, 3)) (w1 : Cond.methodLink own idx yChr ∈ lw_all) : SS l m pc (op_schr stx (pc + 3)) := by
  intro d ls st h Q C' K' T' hC hK hT H
  unfold op_schr at H
  split at H
  · rename_i i a r
    cases hk8 : stk 8 r with
    | false => rw [hk8] at H; exact H.elim
    | true =>
    rw [hk8] at H
    simp only [cond_true] at H
    obtain ⟨ha, hI, H⟩ := H
    obtain ⟨o, h', hs, hq⟩ := hK _ _ _ _ H
    refine ⟨o, h', SM.pureC hs (fun z => vokL_c trivial (vokL_t (vokL_t z))) ?_, hq⟩
    intro p e s mm args below meth c0 G F R QQ loc HH locs cells slots la hS v2 hz hla hro hcs kk
    obtain ⟨k, hk, rfl⟩ := vok_s hz (vokL_h (vokL_t v2)) ha
    obtain ⟨e1, e2, e3⟩ := stx_len k hk
    rw [Nat.add_sub_cancel_left] at kk hI
    rw [e1] at hI
    have hI' := hI.vp
    have hlt : i.toNatClampNeg < sLn k := Nat.not_le.mp fun q => hI' (Or.inr q)
    have h0 : ¬ i < 0 := fun q => hI' (Or.inl q)
    obtain ⟨b1, b2⟩ := stx_by k hk _ hlt
    obtain ⟨c1, c2, -, -⟩ := chr_all ((stx k).getD i.toNatClampNeg 0) (by omega)
    have hi1 : i < Int32.ofNat (sLn k) := by
      have h0 : ¬ i.toInt < 0 := fun z => h0 (Int32.lt_iff_toInt_lt.mpr (by rw [show (0 : Int32).toInt = 0 by decide]; exact z))
      have hlt : i.toInt.toNat < sLn k := hlt
      rw [Int32.lt_iff_toInt_lt, Int32.toInt_ofNat_of_lt (show sLn k < 2 ^ 31 by omega)]
      omega
    obtain ⟨t0, hO, -, -, -⟩ := F.kf.str hk; have hrec : ∃ cell : Cell, HH[gS G k]? = some cell ∧ cell.vm.isStatics = false ∧ s.vm.findClass Sj = some cell.cls := by obtain ⟨cell, h1, h2, h3, -⟩ := hO.kept hS.2.1; exact ⟨cell, h1, h2, h3⟩
    rw [List.map_cons, List.map_cons, show cv G loc (.ref (strB + k)) = .ref (gS G k) from cr_str, show cv G loc (.int i) = .int i from rfl]
    exact jV (As2 := [.int i]) (n := 1) ⟨F.1, F.2.1.trans eb, F.2.2.1, by rw [← eo]; exact F.2.2.2.1, F.hts⟩ hrec (mj_chr F.kf hS hk hI' hi1 (by rw [b1]; exact c1) (nar_c c2)) rfl w1 q3523 q3524 q527 q3525 ⟨by decide, by decide, by decide +kernel⟩ rfl (by omega) (by omega) hcs hla (stk_cat r 8 hk8) hd kk
  · exact H.elim
theorem ss_sidx (eb : (miT m).2.1 = cc) (eo : (miT m).1.cls = own) (hd : decode cc pc = .ok (.invokevirtual idx, 3)) (w1 : Cond.methodLink own idx yIx1 ∈ lw_all) : SS l m pc (op_sidx stx (pc + 3)) := by
  intro d ls st h Q C' K' T' hC hK hT H
  unfold op_sidx at H
  split at H
  · rename_i i a r
    cases hk8 : stk 8 r with
    | false => rw [hk8] at H; exact H.elim
    | true =>
    rw [hk8] at H
    simp only [cond_true] at H
    obtain ⟨ha, H⟩ := H
    obtain ⟨o, h', hs, hq⟩ := hK _ _ _ _ H
    refine ⟨o, h', SM.pureC hs (fun z => vokL_c trivial (vokL_t (vokL_t z))) ?_, hq⟩
    intro p e s mm args below meth c0 G F R QQ loc HH locs cells slots la hS v2 hz hla hro hcs kk
    obtain ⟨k, hk, rfl⟩ := vok_s hz (vokL_h (vokL_t v2)) ha
    obtain ⟨e1, e2, e3⟩ := stx_len k hk
    rw [Nat.add_sub_cancel_left, ← ixL_sidx hk] at kk
    obtain ⟨t0, hO, -, -, -⟩ := F.kf.str hk; have hrec : ∃ cell : Cell, HH[gS G k]? = some cell ∧ cell.vm.isStatics = false ∧ s.vm.findClass Sj = some cell.cls := by obtain ⟨cell, h1, h2, h3, -⟩ := hO.kept hS.2.1; exact ⟨cell, h1, h2, h3⟩
    rw [List.map_cons, List.map_cons, show cv G loc (.ref (strB + k)) = .ref (gS G k) from cr_str, show cv G loc (.int i) = .int i from rfl]
    exact jV (As2 := [.int i]) (n := 1) ⟨F.1, F.2.1.trans eb, F.2.2.1, by rw [← eo]; exact F.2.2.2.1, F.hts⟩ hrec (mj_ix1 F.kf hS hk (by omega) e2) rfl w1 q5454 q5455 q527 q5456 ⟨by decide, by decide, by decide +kernel⟩ rfl (by omega) (by omega) hcs hla (stk_cat r 8 hk8) hd kk
  · exact H.elim
end
