/-! SOUND 17: string constants -/
set_option maxRecDepth 100000
section
variable {l : Launch} {m pc : Nat} {cc : ByteArray}
theorem cr_str {G : GX} {loc : Nat → Nat} {k : Nat} : cr G loc (strB + k) = .ref (gS G k) := by
  unfold cr
  rw [if_neg (by unfold strB; omega), if_pos (by omega), Nat.add_sub_cancel_left]
theorem ss_ldcS {own tx : String} {idx k : Nat} (eb : (miT m).2.1 = cc) (eo : (miT m).1.cls = own) (hd : decode cc pc = .ok (.ldc idx, 2)) (hk : k < 115) (hq : (own, idx, tx, k) ∈ srT) : SS l m pc (op_c (.ref (strB + k)) (pc + 2)) := by
  refine ss_pushF (fun _ => Or.inr (Or.inr ⟨Nat.le_add_right _ _, Nat.add_lt_add_left hk _⟩)) ?_
  intro p e s mm args below meth c G F R Q loc h H locs cells slots la r hr hS hz kk
  obtain ⟨-, -, -, -, -, -, -, -, -, -, adK, adV, -, -, hs⟩ := F.kf
  have hZ := hs _ hq
  rw [show cv G loc (.ref (strB + k)) = .ref (gS G k) from cr_str] at kk
  exact va_ldcS F.1 (F.2.1.trans eb) (by rw [← eo]; exact F.2.2.2.1) hZ hd kk
end
