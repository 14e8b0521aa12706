/-! THE START: what stays, at the law's entry: written by gen/st.py -/
set_option maxRecDepth 100000
def repT : List (String × Nat) := [("LibraryDesk$Forme\x72", 108), ("LibraryDesk$Forme\x72", 110), ("LibraryDesk$Streame\x72", 51), ("LibraryDesk$Streame\x72", 60), ("LibraryDesk$Streame\x72", 62), ("LibraryDesk$Streame\x72", 67), ("LibraryDesk$Streame\x72", 69), ("LibraryDesk$Streame\x72", 71), ("LibraryDesk$Streame\x72", 84), ("LibraryDesk$Streame\x72", 86), ("LibraryDesk$Streame\x72", 88), ("LibraryDesk$Streame\x72", 90), ("LibraryDesk$Streame\x72", 92), ("LibraryDesk$Streame\x72", 94), ("LibraryDesk$Streame\x72", 96), ("LibraryDesk$Streame\x72", 98), ("LibraryDesk$Streame\x72", 100), ("LibraryDesk$Streame\x72", 102), ("LibraryDesk$Streame\x72", 104), ("LibraryDesk$Streame\x72", 106), ("LibraryDesk$Streame\x72", 129), ("LibraryDesk$Streame\x72", 131), ("LibraryDesk$Streame\x72", 133), ("LibraryDesk$Streame\x72", 135), ("LibraryDesk$Streame\x72", 137), ("LibraryDesk$Streame\x72", 139), ("LibraryDesk$Streame\x72", 141), ("LibraryDesk$Streame\x72", 143), ("LibraryDesk$Streame\x72", 145), ("LibraryDesk$Streame\x72", 154), ("LibraryDesk$Streame\x72", 155), ("LibraryDesk$Streame\x72", 157), ("LibraryDesk$Streame\x72", 159), ("LibraryDesk$Streame\x72", 161), ("LibraryDesk$Streame\x72", 163), ("LibraryDesk$Streame\x72", 164), ("LibraryDesk$Streame\x72", 166), ("LibraryDesk$Streame\x72", 168), ("LibraryDesk$Streame\x72", 170), ("LibraryDesk$Streame\x72", 184), ("LibraryDesk$Streame\x72", 193), ("LibraryDesk$Threads", 81), ("LibraryDesk$Threads", 87), ("LibraryDesk$Threads", 89), ("LibraryDesk$Threads", 91), ("LibraryDesk$Threads", 93), ("LibraryDesk$Threads", 95), ("LibraryDesk$Threads", 97), ("LibraryDesk$Threads", 99), ("LibraryDesk$Threads", 101), ("LibraryDesk$Threads", 103), ("LibraryDesk$Threads", 105), ("LibraryDesk$Threads", 107), ("LibraryDesk$Threads", 111), ("LibraryDesk$Threads", 113), ("LibraryDesk$Threads", 115), ("LibraryDesk$Threads", 117), ("LibraryDesk$Threads", 119), ("LibraryDesk$Threads", 121), ("LibraryDesk$Threads", 123), ("LibraryDesk$Threads", 125), ("LibraryDesk$Threads", 127), ("LibraryDesk$Threads", 129), ("LibraryDesk$Threads", 131), ("LibraryDesk$Threads", 133), ("LibraryDesk$Threads", 135), ("LibraryDesk$Threads", 137), ("LibraryDesk$Threads", 139), ("LibraryDesk$Threads", 141), ("LibraryDesk$Threads", 170), ("LibraryDeskModel", 763), ("LibraryDeskModel", 776), ("LibraryDeskModel", 1145)]
def ordT : List Nat := [0, 1, 15, 16, 17, 18, 19, 8, 9, 10, 11, 12, 13, 14, 40, 20, 21, 22, 23, 24, 25, 26, 27, 28, 2, 3, 4, 5, 6, 7, 29, 30, 31, 32, 33, 34, 35, 36, 37, 38, 39, 41, 42, 43, 44, 45, 46, 47, 48, 49, 50, 51, 52, 53, 54, 55, 56, 57, 58, 59, 60, 61, 62, 63, 64, 65, 66, 67, 68, 69, 70, 71, 72]
def dupT : List Nat := [53, 73, 74, 88, 89, 90, 91, 92, 81, 82, 83, 84, 85, 86, 87, 113, 93, 94, 95, 96, 97, 98, 99, 100, 101, 75, 76, 77, 78, 79, 80, 102, 103, 104, 105, 106, 107, 108, 109, 110, 111, 112]
theorem noEx {C : String} : ∀ w ∈ u_ws C TEx 0, w ∈ lw_all := fun _ h => absurd h List.not_mem_nil
theorem cls_all {args : Array Value} {s : State} (hts : ∀ w ∈ lw_all, w.before args s = true) : ∀ q ∈ clT, ∃ (c : ClassId) (iS : Nat → Nat), u_Kn s q.1 q.2.1 q.2.2 c iS := List.forall_mem_cons.mpr ⟨u_known hts in_X1 (hts _ q571), List.forall_mem_cons.mpr ⟨u_known hts in_X2 (hts _ q579), List.forall_mem_cons.mpr ⟨u_known hts in_X3 (hts _ q598), List.forall_mem_cons.mpr ⟨u_known hts in_X4 (hts _ q612), List.forall_mem_cons.mpr ⟨u_known hts in_X5 (hts _ q665), List.forall_mem_cons.mpr ⟨u_known hts in_X6 (hts _ q712), List.forall_mem_cons.mpr ⟨u_known hts in_X7 (hts _ q762), List.forall_mem_cons.mpr ⟨u_known hts in_X8 (hts _ q768), List.forall_mem_cons.mpr ⟨u_known hts in_X9 (hts _ q822), List.forall_mem_cons.mpr ⟨u_known hts in_X10 (hts _ q852), List.forall_mem_cons.mpr ⟨u_known hts in_X11 (hts _ q872), List.forall_mem_cons.mpr ⟨u_known hts in_X12 (hts _ q878), List.forall_mem_cons.mpr ⟨u_known hts in_X13 (hts _ q994), List.forall_mem_cons.mpr ⟨u_known hts in_X14 (hts _ q4485), List.forall_mem_cons.mpr ⟨u_known hts in_X17 (hts _ q1364), List.forall_mem_cons.mpr ⟨u_known hts in_X18 (hts _ q1376), List.forall_mem_cons.mpr ⟨u_known hts in_X19 (hts _ q1412), List.forall_mem_cons.mpr ⟨u_known hts in_X21 (hts _ q1433), List.forall_mem_cons.mpr ⟨u_known hts in_X22 (hts _ q1442), List.forall_mem_cons.mpr ⟨u_known hts in_X23 (hts _ q1509), List.forall_mem_cons.mpr ⟨u_known hts in_X24 (hts _ q1548), List.forall_mem_cons.mpr ⟨u_known hts in_X25 (hts _ q1584), List.forall_mem_cons.mpr ⟨u_known hts in_X26 (hts _ q1611), List.forall_mem_cons.mpr ⟨u_known hts in_X27 (hts _ q1623), List.forall_mem_cons.mpr ⟨u_known hts in_X28 (hts _ q1642), List.forall_mem_cons.mpr ⟨u_known hts in_X29 (hts _ q1699), List.forall_mem_cons.mpr ⟨u_known hts in_X30 (hts _ q1720), List.forall_mem_cons.mpr ⟨u_known hts in_X31 (hts _ q1741), List.forall_mem_cons.mpr ⟨u_known hts in_X32 (hts _ q1756), List.forall_mem_cons.mpr ⟨u_known hts in_X33 (hts _ q1778), List.forall_mem_cons.mpr ⟨u_known hts in_X34 (hts _ q1818), List.forall_mem_cons.mpr ⟨u_known hts in_X35 (hts _ q1152), List.forall_mem_cons.mpr ⟨u_known hts inB_48 (hts _ q3100), List.forall_mem_cons.mpr ⟨u_known hts inB_49 (hts _ q5284), List.forall_mem_cons.mpr ⟨u_known hts inB_50 (hts _ q5828), List.forall_mem_cons.mpr ⟨u_known hts noEx (hts _ q1249), List.forall_mem_cons.mpr ⟨u_known hts noEx (hts _ q1285), List.forall_mem_cons.mpr ⟨u_known hts noEx (hts _ q1304), List.forall_mem_cons.mpr ⟨u_known hts noEx (hts _ q1340), List.forall_mem_cons.mpr ⟨u_known hts noEx (hts _ q1949), List.forall_mem_cons.mpr ⟨u_known hts noEx (hts _ q1971), List.forall_mem_cons.mpr ⟨u_known hts noEx (hts _ q2173), List.forall_mem_cons.mpr ⟨u_known hts noEx (hts _ q3593), List.forall_mem_cons.mpr ⟨u_known hts noEx (hts _ q1158), fun _ h => absurd h List.not_mem_nil⟩⟩⟩⟩⟩⟩⟩⟩⟩⟩⟩⟩⟩⟩⟩⟩⟩⟩⟩⟩⟩⟩⟩⟩⟩⟩⟩⟩⟩⟩⟩⟩⟩⟩⟩⟩⟩⟩⟩⟩⟩⟩⟩⟩
theorem srT_tbl : ∀ q ∈ srT, Cond.stringRef q.1 q.2.1 q.2.2.1 ∈ lw_tbl := List.forall_mem_cons.mpr ⟨q3506, List.forall_mem_cons.mpr ⟨q3507, List.forall_mem_cons.mpr ⟨q3995, List.forall_mem_cons.mpr ⟨q3996, List.forall_mem_cons.mpr ⟨q3997, List.forall_mem_cons.mpr ⟨q3998, List.forall_mem_cons.mpr ⟨q3999, List.forall_mem_cons.mpr ⟨q4000, List.forall_mem_cons.mpr ⟨q3956, List.forall_mem_cons.mpr ⟨q3962, List.forall_mem_cons.mpr ⟨q3963, List.forall_mem_cons.mpr ⟨q3964, List.forall_mem_cons.mpr ⟨q3965, List.forall_mem_cons.mpr ⟨q3966, List.forall_mem_cons.mpr ⟨q3967, List.forall_mem_cons.mpr ⟨q3922, List.forall_mem_cons.mpr ⟨q3929, List.forall_mem_cons.mpr ⟨q3930, List.forall_mem_cons.mpr ⟨q3931, List.forall_mem_cons.mpr ⟨q3932, List.forall_mem_cons.mpr ⟨q3978, List.forall_mem_cons.mpr ⟨q3979, List.forall_mem_cons.mpr ⟨q3980, List.forall_mem_cons.mpr ⟨q3981, List.forall_mem_cons.mpr ⟨q3982, List.forall_mem_cons.mpr ⟨q3983, List.forall_mem_cons.mpr ⟨q3984, List.forall_mem_cons.mpr ⟨q3985, List.forall_mem_cons.mpr ⟨q3986, List.forall_mem_cons.mpr ⟨q4010, List.forall_mem_cons.mpr ⟨q4011, List.forall_mem_cons.mpr ⟨q4012, List.forall_mem_cons.mpr ⟨q4013, List.forall_mem_cons.mpr ⟨q4014, List.forall_mem_cons.mpr ⟨q4015, List.forall_mem_cons.mpr ⟨q4016, List.forall_mem_cons.mpr ⟨q4017, List.forall_mem_cons.mpr ⟨q4018, List.forall_mem_cons.mpr ⟨q4019, List.forall_mem_cons.mpr ⟨q4020, List.forall_mem_cons.mpr ⟨q3968, List.forall_mem_cons.mpr ⟨q4151, List.forall_mem_cons.mpr ⟨q4153, List.forall_mem_cons.mpr ⟨q4154, List.forall_mem_cons.mpr ⟨q4155, List.forall_mem_cons.mpr ⟨q4156, List.forall_mem_cons.mpr ⟨q4157, List.forall_mem_cons.mpr ⟨q4158, List.forall_mem_cons.mpr ⟨q4159, List.forall_mem_cons.mpr ⟨q4160, List.forall_mem_cons.mpr ⟨q4161, List.forall_mem_cons.mpr ⟨q4162, List.forall_mem_cons.mpr ⟨q4163, List.forall_mem_cons.mpr ⟨q4164, List.forall_mem_cons.mpr ⟨q4165, List.forall_mem_cons.mpr ⟨q4166, List.forall_mem_cons.mpr ⟨q4167, List.forall_mem_cons.mpr ⟨q4168, List.forall_mem_cons.mpr ⟨q4169, List.forall_mem_cons.mpr ⟨q4170, List.forall_mem_cons.mpr ⟨q4171, List.forall_mem_cons.mpr ⟨q4172, List.forall_mem_cons.mpr ⟨q4173, List.forall_mem_cons.mpr ⟨q4174, List.forall_mem_cons.mpr ⟨q4175, List.forall_mem_cons.mpr ⟨q4176, List.forall_mem_cons.mpr ⟨q4177, List.forall_mem_cons.mpr ⟨q4178, List.forall_mem_cons.mpr ⟨q4179, List.forall_mem_cons.mpr ⟨q4180, List.forall_mem_cons.mpr ⟨q4186, List.forall_mem_cons.mpr ⟨q5448, List.forall_mem_cons.mpr ⟨q5508, List.forall_mem_cons.mpr ⟨q5523, List.forall_mem_cons.mpr ⟨q5524, List.forall_mem_cons.mpr ⟨q5791, List.forall_mem_cons.mpr ⟨q5792, List.forall_mem_cons.mpr ⟨q5793, List.forall_mem_cons.mpr ⟨q5794, List.forall_mem_cons.mpr ⟨q5795, List.forall_mem_cons.mpr ⟨q5796, List.forall_mem_cons.mpr ⟨q5758, List.forall_mem_cons.mpr ⟨q5759, List.forall_mem_cons.mpr ⟨q5760, List.forall_mem_cons.mpr ⟨q5761, List.forall_mem_cons.mpr ⟨q5762, List.forall_mem_cons.mpr ⟨q5763, List.forall_mem_cons.mpr ⟨q5764, List.forall_mem_cons.mpr ⟨q5739, List.forall_mem_cons.mpr ⟨q5750, List.forall_mem_cons.mpr ⟨q5751, List.forall_mem_cons.mpr ⟨q5752, List.forall_mem_cons.mpr ⟨q5753, List.forall_mem_cons.mpr ⟨q5778, List.forall_mem_cons.mpr ⟨q5779, List.forall_mem_cons.mpr ⟨q5780, List.forall_mem_cons.mpr ⟨q5781, List.forall_mem_cons.mpr ⟨q5782, List.forall_mem_cons.mpr ⟨q5783, List.forall_mem_cons.mpr ⟨q5784, List.forall_mem_cons.mpr ⟨q5785, List.forall_mem_cons.mpr ⟨q5786, List.forall_mem_cons.mpr ⟨q5801, List.forall_mem_cons.mpr ⟨q5802, List.forall_mem_cons.mpr ⟨q5803, List.forall_mem_cons.mpr ⟨q5804, List.forall_mem_cons.mpr ⟨q5805, List.forall_mem_cons.mpr ⟨q5806, List.forall_mem_cons.mpr ⟨q5807, List.forall_mem_cons.mpr ⟨q5808, List.forall_mem_cons.mpr ⟨q5809, List.forall_mem_cons.mpr ⟨q5810, List.forall_mem_cons.mpr ⟨q5811, List.forall_mem_cons.mpr ⟨q5765, List.forall_mem_cons.mpr ⟨q5886, fun _ h => absurd h List.not_mem_nil⟩⟩⟩⟩⟩⟩⟩⟩⟩⟩⟩⟩⟩⟩⟩⟩⟩⟩⟩⟩⟩⟩⟩⟩⟩⟩⟩⟩⟩⟩⟩⟩⟩⟩⟩⟩⟩⟩⟩⟩⟩⟩⟩⟩⟩⟩⟩⟩⟩⟩⟩⟩⟩⟩⟩⟩⟩⟩⟩⟩⟩⟩⟩⟩⟩⟩⟩⟩⟩⟩⟩⟩⟩⟩⟩⟩⟩⟩⟩⟩⟩⟩⟩⟩⟩⟩⟩⟩⟩⟩⟩⟩⟩⟩⟩⟩⟩⟩⟩⟩⟩⟩⟩⟩⟩⟩⟩⟩⟩⟩⟩⟩⟩⟩⟩
def subl : List Cond → List Cond → Bool
  | [], _ => true
  | _ :: _, [] => false
  | a :: as, b :: bs => if a = b then subl as bs else subl (a :: as) bs
theorem subl_mem : ∀ (bs as : List Cond), subl as bs = true → ∀ w ∈ as, w ∈ bs
  | [], [], _, _, h => h
  | [], _ :: _, h, _, _ => by cases h
  | _ :: _, [], _, _, h => absurd h List.not_mem_nil
  | b :: bs, a :: as, h, w, hw => by
    unfold subl at h
    by_cases e : a = b
    · rw [if_pos e] at h
      rcases List.mem_cons.mp hw with rfl | hw
      · rw [e]; exact List.mem_cons_self
      · exact List.mem_cons_of_mem _ (subl_mem bs as h w hw)
    · rw [if_neg e] at h
      exact List.mem_cons_of_mem _ (subl_mem bs (a :: as) h w hw)
abbrev tmS (i : Nat) : Term := .string (repT.getD i ("", 0)).1 (repT.getD i ("", 0)).2
abbrev tvS (i : Nat) : Term := .field (tmS i) "java/lang/String" "value" "[B"
def sN (i : Nat) : List Cond := [.exactly (tmS i) "java/lang/String", .eq (.field (tmS i) "java/lang/String" "code\x72" "B") (.int 0), .arrayOf (tvS i) .byte, .eq (.length (tvS i)) (.int (Int32.ofNat (lnT.getD i 0)))] ++
  (List.range (lnT.getD i 0)).map (fun j => .eq (.elem (tvS i) (.int (Int32.ofNat j))) (.int ((byT.getD i []).getD j 0)))
theorem nar_nc : subl (ncT.map (fun q => Cond.not (.castable q.1 q.2))) (flatC narrow_1) = true := by decide +kernel
theorem nar_sN : subl (ordT.flatMap sN) (flatC narrow_1) = true := by decide +kernel
def dupC (k : Nat) : Cond := .eq (tmS (dsT.getD k 0)) (.string (srT.getD k ("", 0, "", 0)).1 (srT.getD k ("", 0, "", 0)).2.1)
theorem nar_du : subl (dupT.map dupC) (flatC narrow_1) = true := by decide +kernel
theorem ord_all : ∀ i, i < lnT.length → i ∈ ordT := by decide +kernel
theorem sr_all : ∀ k, k < 115 → (srT.getD k ("", 0, "", 0)).2.2.2 = k ∧ (k ∈ dupT ∨ ((srT.getD k ("", 0, "", 0)).1 = (repT.getD (dsT.getD k 0) ("", 0)).1 ∧ (srT.getD k ("", 0, "", 0)).2.1 = (repT.getD (dsT.getD k 0) ("", 0)).2)) := by decide +kernel
theorem nar_st : subl [Cond.isRef (.static "java/lang/Throwable" "UNASSIGNED_STACK" "[Ljava/lang/StackTraceElement;"), Cond.isRef (.static "java/lang/Throwable" "SUPPRESSED_SENTINEL" "Ljava/util/List;"), Cond.eq (.static "java/lang/String" "COMPACT_STRINGS" "Z") (.int 1), Cond.isRef (.static "jdk/internal/util/Preconditions" "SIOOBE_FORMATTER" "Ljava/util/function/BiFunction;")] (flatC narrow_1) = true := by decide +kernel
theorem ln_small : ∀ i, i < lnT.length → lnT.getD i 0 < 2 ^ 31 := by decide +kernel
theorem by_diff : ∀ i, i < lnT.length → ∀ j, j < lnT.length → lnT.getD i 0 = lnT.getD j 0 → (∀ q, q < lnT.getD i 0 → (byT.getD i []).getD q 0 = (byT.getD j []).getD q 0) → i = j := by decide +kernel
theorem str0 {args : Array Value} {s : State} {A : Nat → Prop} (hs : ∀ w ∈ flatC narrow_1, w.before args s = true) (hA : ∀ a : Nat, a < s.heap.size → ¬ A a) :
    ∃ adK adV : Nat → Nat, vk_S lnT.length lnT byT adK adV A s s.heap ∧ ∀ i : Nat, i < lnT.length → (tmS i).eval args s none [] s = some (.ref (adK i)) := by
  have hN : ∀ i, i < lnT.length → ∀ w ∈ sN i, w.before args s = true := fun i hi w hw => hs w (subl_mem _ _ nar_sN w (List.mem_flatMap.mpr ⟨i, ord_all i hi, hw⟩))
  have h0 : ∀ i : Nat, ∃ q : Nat × Nat, i < lnT.length → (tmS i).eval args s none [] s = some (.ref q.1) ∧ va_O "java/lang/String" q.1 A s s.heap ∧ va_OF "java/lang/String" "code\x72" "B" (.int 0) q.1 A s s.heap ∧ va_OF "java/lang/String" "value" "[B" (.ref q.2) q.1 A s s.heap ∧ va_T .byte q.2 (lnT.getD i 0) (fun j => .int ((byT.getD i []).getD j 0)) A s s.heap := by
    intro i
    by_cases hi : i < lnT.length
    · have hw := hN i hi
      have w1 := hw _ (List.mem_append_left _ List.mem_cons_self)
      have w2 := hw _ (List.mem_append_left _ (List.mem_cons_of_mem _ List.mem_cons_self))
      have w3 := hw _ (List.mem_append_left _ (List.mem_cons_of_mem _ (List.mem_cons_of_mem _ List.mem_cons_self)))
      have w4 := hw _ (List.mem_append_left _ (List.mem_cons_of_mem _ (List.mem_cons_of_mem _ (List.mem_cons_of_mem _ List.mem_cons_self))))
      have w5 : ∀ j, j < lnT.getD i 0 → (Cond.eq (.elem (tvS i) (.int (Int32.ofNat j))) (.int ((byT.getD i []).getD j 0))).before args s = true := fun j hj => hw _ (List.mem_append_right _ (List.mem_map.mpr ⟨j, List.mem_range.mpr hj, rfl⟩))
      obtain ⟨a, c, cA, kA, q1, q2, q3, q4, q5, q6, -⟩ := Cond.exactly_spec (args := args) (first := s) (o := none) (s := s) (idx := []) (t := tmS i) (cls := "java/lang/String") w1
      obtain ⟨t, ht, hT⟩ := va_Tof (f := fun j => .int ((byT.getD i []).getD j 0)) (A := A) (ln_small i hi) w3 (va_eqt w4) (fun j hj => va_eqt (w5 j hj)) hA
      exact ⟨(a, t), fun _ => ⟨q1, ⟨cA, q3, q5, by rw [q6]; exact q2, hA a (Array.getElem?_eq_some_iff.mp q3).1⟩, vk_OFof q1 (va_eqt w2) hA, vk_OFof q1 ht hA, hT⟩⟩
    · exact ⟨(0, 0), fun h => absurd h hi⟩
  obtain ⟨ad, had⟩ := Classical.axiomOfChoice h0
  refine ⟨fun i => (ad i).1, fun i => (ad i).2, ⟨fun i hi => (had i hi).2, fun i j hi hj e => ?_⟩, fun i hi => (had i hi).1⟩
  obtain ⟨-, -, -, f1, t1⟩ := had i hi
  obtain ⟨-, -, -, f2, t2⟩ := had j hj
  obtain ⟨cf1, k1, i1, g1, ce1, a1, a2, a3, a4, a5, -⟩ := f1
  obtain ⟨cf2, k2, i2, g2, ce2, b1, b2, b3, b4, b5, -⟩ := f2
  have e : (ad i).1 = (ad j).1 := e
  cases Option.some.inj (a1.symm.trans b1)
  rw [e] at a3
  cases Option.some.inj (a3.symm.trans b3)
  have ev : (ad i).2 = (ad j).2 := by
    have := Option.some.inj (a5.symm.trans b5)
    injection this
  obtain ⟨c1, m1, -, -, m4, m5, m6, -⟩ := t1
  obtain ⟨c2, n1, -, -, n4, n5, n6, -⟩ := t2
  rw [ev] at m1
  cases Option.some.inj (m1.symm.trans n1)
  have el : lnT.getD i 0 = lnT.getD j 0 := i32_nat (ln_small i hi) (ln_small j hj) (m5.symm.trans n5)
  refine by_diff i hi j hj el (fun q hq => ?_)
  have := Option.some.inj ((m6 q hq).symm.trans (n6 q (by rw [← el]; exact hq)))
  injection this
theorem arr_P {args : Array Value} {s : State} {ty : FieldType} (h : (Cond.arrayClass ty).before args s = true) : ∃ c : ClassId, ArrOfT s c ty ∧ s.vm.findClass ("[" ++ ty.toString) = some c := by
  obtain ⟨c, k, comp, h1, h2, h3⟩ := Cond.arrayClass_spec h
  exact ⟨c, fun n z => ⟨fun k h => (by cases h), k, h2, comp, h3⟩, h1⟩
theorem nw_start {w : Cond} (hk : nk w = true) {args : Array Value} {s : State} (h : w.before args s = true) : va_Nw w s := by
  unfold nk at hk
  split at hk
  · exact va_Nw.of rfl h
  · exact va_Nw.of rfl h
  · exact va_Nw.of rfl h
  · exact va_Nw.of rfl h
  · exact h
  · cases hk
set_option maxHeartbeats 2000000 in
theorem kf0 {s : State} {b L : Nat} {xs : Nat → Int32} (hts : ∀ w ∈ lw_tbl, w.before #[Value.ref b] s = true) (hX : va_X b L xs s s.heap) (hb : b < s.heap.size) (hg : (Jvm.Cond.and given_1 narrow_1).before #[Value.ref b] s = true) :
    ∃ G : GX, gA G = (fun q => s.heap.size ≤ q) ∧ gb G = b ∧ gL G = L ∧ gx G = xs ∧ KF G s s.heap := by
  have hta : ∀ w ∈ lw_all, w.before #[Value.ref b] s = true := fun w h => hts w (lw_all_tbl h)
  rw [Cond.before_and, Bool.and_eq_true] at hg
  have hs := flat_of_before _ hg.2
  have hA : ∀ a : Nat, a < s.heap.size → ¬ (fun q => s.heap.size ≤ q) a := fun a h z => Nat.not_le.mpr h z
  have hst := subl_mem _ _ nar_st
  have hcl := cls_all hta
  have hch : ∀ k : Nat, ∃ q : ClassId × (Nat → Nat), ∀ r : vw_C, clT[k]? = some r → u_Kn s r.1 r.2.1 r.2.2 q.1 q.2 := by
    intro k
    cases h : clT[k]? with
    | none => exact ⟨(0, fun _ => 0), fun r hr => by cases hr⟩
    | some r =>
      obtain ⟨c, iS, hk⟩ := hcl r (List.mem_of_getElem? h)
      exact ⟨(c, iS), fun r' hr => by cases hr; exact hk⟩
  obtain ⟨dD, hD⟩ := Classical.axiomOfChoice hch
  obtain ⟨adK, adV, hvk, hev⟩ := str0 hs hA
  obtain ⟨c1, r1, n1⟩ := arr_P (hta _ q610)
  obtain ⟨c2, r2, n2⟩ := arr_P (hta _ q594)
  obtain ⟨c3, r3, n3⟩ := arr_P (hta _ q710)
  obtain ⟨c4, r4, n4⟩ := arr_P (hta _ q663)
  obtain ⟨comp5, c5, k5, -, -, h53, h54, h55⟩ := arrayOverA_spec (hts _ q4491)
  obtain ⟨comp6, c6, k6, h61, -, h63, h64, h65⟩ := Cond.arrayOver_spec (hts _ q596)
  refine ⟨((fun k => (dD k).1, fun k => (dD k).2), fun k => if k = 1 then c1 else if k = 2 then c2 else if k = 3 then c3 else if k = 4 then c4 else if k = 5 then c5 else c6, fun q => s.heap.size ≤ q, fun k => adK (dsT.getD k 0), b, L, xs), rfl, rfl, rfl, rfl, ?_⟩
  refine ⟨⟨fun k q hq => hD k q hq, fun k q hq => ?_⟩, fun w hw => nw_start (nwT_nk w hw) (hts w (nwT_tbl w hw)), fun q hq => va_Nc.of (hs _ (subl_mem _ _ nar_nc _ (List.mem_map_of_mem hq))), hts _ q596, ?_, ?_, hX, hb, hA b hb, ⟨?_, ?_⟩, adK, adV, fun k hk => rfl, hvk, fun q hq => ?_⟩
  · match k, hq with
    | 0, hq => cases hq; exact ⟨r1, n1⟩
    | 1, hq => cases hq; exact ⟨r2, n2⟩
    | 2, hq => cases hq; exact ⟨r3, n3⟩
    | 3, hq => cases hq; exact ⟨r4, n4⟩
    | 4, hq => cases hq; exact ⟨fun n z => ⟨fun k h => (by cases h), k5, h53, comp5, h54⟩, h55⟩
    | 5, hq => cases hq; exact ⟨fun n z => ⟨fun k h => (by cases h), k6, h63, comp6, h64⟩, k6, comp6, h63, h64, h61, h65⟩
    | k + 6, hq => cases hq
  · exact vx_Zqof (hts _ q1175) (hta _ q522) (hs _ (hst _ List.mem_cons_self)) hA
  · exact vx_Zqof (hts _ q1177) (hta _ q522) (hs _ (hst _ (List.mem_cons_of_mem _ List.mem_cons_self))) hA
  · exact va_Zof (hts _ q3521) (hta _ q527) (va_eqi (hs _ (hst _ (List.mem_cons_of_mem _ (List.mem_cons_of_mem _ List.mem_cons_self))))) hA
  · exact va_Zqof (hts _ q3537) (hta _ q564) (hs _ (hst _ (List.mem_cons_of_mem _ (List.mem_cons_of_mem _ (List.mem_cons_of_mem _ List.mem_cons_self))))) hA
  · obtain ⟨k, hk⟩ := List.mem_iff_getElem?.mp hq
    have hlt : k < 115 := (List.getElem?_eq_some_iff.mp hk).1
    have hgd : srT.getD k ("", 0, "", 0) = q := by rw [List.getD_eq_getElem?_getD, hk]; rfl
    obtain ⟨e1, e2⟩ := sr_all k hlt
    rw [hgd] at e1 e2
    have hd := dsT_lt k hlt
    show vk_R q.1 q.2.1 q.2.2.1 (adK (dsT.getD q.2.2.2 0)) s
    rw [e1]
    refine vk_R.of (A := #[Value.ref b]) (hts _ (srT_tbl q hq)) ?_
    rcases e2 with e2 | ⟨e2, e3⟩
    · have hc := hs _ (subl_mem _ _ nar_du _ (List.mem_map_of_mem e2))
      unfold dupC at hc
      rw [hgd] at hc
      exact va_eqR hc (hev _ hd)
    · rw [e2, e3]
      exact hev _ hd
