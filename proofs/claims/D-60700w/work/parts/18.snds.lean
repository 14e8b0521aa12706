/-! SOUND 28: new exceptions of our own with a number: the four kinds -/
set_option maxRecDepth 100000
section
variable {l : Launch} {m pc : Nat} {cc : ByteArray} {ik ic c f k : Nat} {own obj host : String} {T : u_T} {cB : ByteArray}
theorem ss_bkLn {j : Fin 4} (eb : (miT m).2.1 = cc) (eo : (miT m).1.cls = own) (d0 : decode cc pc = .ok (.new ik, 3)) (d3 : decode cc (pc + 3) = .ok (.dup, 1)) (da : decode cc (pc + 4) = .ok (.iload_n j, 1)) (hj : (j : Nat) = k) (di : decode cc (pc + 5) = .ok (.invokespecial ic, 3)) (hB : BKF own obj host T cB c f ik ic) (hM : BKM l obj T ⟨obj, "<init>", "(I)V"⟩ cB) : SS l m pc (op_bkL c f k (pc + 8)) := by
  refine ss_bk0 (pi := pc + 5) eb eo d0 d3 di hB hM fun C' K' T' ls st h H => ?_
  unfold op_bkL at H
  split at H
  · rename_i v hv
    refine ⟨v, H, ?_⟩
    intro p e s mm args below meth c0 G F R Q loc HH H1 locs cells slots la rr hr hz ho hla kk
    exact lv_iload_n F.1 (F.2.1.trans eb) da hj (la_get hla hv (by intro z; cases z)) kk
  · exact H.elim
theorem ss_bkL (eb : (miT m).2.1 = cc) (eo : (miT m).1.cls = own) (d0 : decode cc pc = .ok (.new ik, 3)) (d3 : decode cc (pc + 3) = .ok (.dup, 1)) (da : decode cc (pc + 4) = .ok (.iload k, 2)) (di : decode cc (pc + 6) = .ok (.invokespecial ic, 3)) (hB : BKF own obj host T cB c f ik ic) (hM : BKM l obj T ⟨obj, "<init>", "(I)V"⟩ cB) : SS l m pc (op_bkL c f k (pc + 9)) := by
  refine ss_bk0 (pi := pc + 6) eb eo d0 d3 di hB hM fun C' K' T' ls st h H => ?_
  unfold op_bkL at H
  split at H
  · rename_i v hv
    refine ⟨v, H, ?_⟩
    intro p e s mm args below meth c0 G F R Q loc HH H1 locs cells slots la rr hr hz ho hla kk
    exact lv_iload F.1 (F.2.1.trans eb) da (la_get hla hv (by intro z; cases z)) kk
  · exact H.elim
theorem ss_bkC {n : Int} {v : Int32} (eb : (miT m).2.1 = cc) (eo : (miT m).1.cls = own) (d0 : decode cc pc = .ok (.new ik, 3)) (d3 : decode cc (pc + 3) = .ok (.dup, 1)) (da : decode cc (pc + 4) = .ok (.iconst n, 1)) (hv : Int32.ofInt n = v) (di : decode cc (pc + 5) = .ok (.invokespecial ic, 3)) (hB : BKF own obj host T cB c f ik ic) (hM : BKM l obj T ⟨obj, "<init>", "(I)V"⟩ cB) : SS l m pc (op_bkC c f v (pc + 8)) := by
  refine ss_bk0 (pi := pc + 5) eb eo d0 d3 di hB hM fun C' K' T' ls st h H => ⟨v, H, ?_⟩
  intro p e s mm args below meth c0 G F R Q loc HH H1 locs cells slots la rr hr hz ho hla kk
  exact lv_iconst F.1 (F.2.1.trans eb) da hv kk
/-- this.field -/
theorem bk_get {fc ff idx : Nat} {ref hst : String} {h : HP} {ls : List Value} {b : Nat} (eb : (miT m).2.1 = cc) (eo : (miT m).1.cls = own) {p1 : Nat} (da : decode cc p1 = .ok (.aload_n 0, 1)) (dg : decode cc (p1 + 1) = .ok (.getfield idx, 3)) (hF : GF own ref hst idx 0 ff fc) (hb : lget ls 0 = .ref b) (hcb : hcls h b = fc)
    {p : Program} {e : Env} {s : State} {mm : MethodId} {args : Array Value} {below : List Frame} {meth : Method} {c0 : Code} {G : GX} (F : FX (miT m) p s mm args meth c0 G) {R : Room} {Q : State → Prop} {loc : Nat → Nat} {H H1 : Heap} {locs : List Loc} {cells slots : Nat} {la : Array Slot} {rr : List Value} (hr : HR G loc h H) (hz : hsz h ≤ strB) (ho : ∀ q, q < H.size → H1[q]? = H[q]?) (hla : lv_has la (miT m).2.2.1 (prs G loc 0 ls))
    (kk : W p l e R s mm args below meth c0 H1 locs cells slots Q (F0 mm (p1 + 1 + 3) la (.int (fI h ff b) :: rr))) : W p l e R s mm args below meth c0 H1 locs cells slots Q (F0 mm p1 la rr) := by
  obtain ⟨C, T, N, k, hc, hcl, hin, hk, hf, hlink, hsame⟩ := hF
  obtain ⟨hat, hA, ha0, ha1⟩ := hr.at hcb (by omega) (by omega)
  rw [EE_obj hcb hc] at hat
  have hP : va_P (gD G) clT [(loc b, .inr (clI fc, (flT fc).map (fv G loc h b)))] H1 := (va_one hat).kept (fun i x hx => by
    cases i with
    | zero => cases hx; exact ho _ hat.lt
    | succ i => cases hx)
  have hvv : ((flT fc).map (fv G loc h b))[k]? = some (.int (fI h ff b)) := by rw [List.getElem?_map, hf, Option.map_some]; rfl
  have hown : s.vm.findClass own = some mm.cls := by rw [← eo]; exact F.2.2.2.1
  have hl := la_get hla hb (by intro z; cases z)
  rw [show cv G loc (.ref b) = .ref (loc b) from cr_loc ha0 ha1 hz] at hl
  refine lv_aload_n F.1 (F.2.1.trans eb) da rfl hl ?_
  rcases hlink with hlink | hlink
  · exact va_get F.1 (F.2.1.trans eb) F.hts hin hown F.kf.1 hP 0 rfl hcl k hk (F.hts _ hlink) (by rw [hsame]; exact fun _ z => z) hvv dg kk
  · exact va_getN F.1 (F.2.1.trans eb) F.hts hin hown F.kf.1 hP 0 rfl hcl k hk (va_Nw.use rfl (F.kf.2.1 _ hlink)) (by rw [hsame]; exact fun _ z => z) hvv dg kk
theorem ss_bkF {fc ff idx : Nat} {ref hst : String} (eb : (miT m).2.1 = cc) (eo : (miT m).1.cls = own) (d0 : decode cc pc = .ok (.new ik, 3)) (d3 : decode cc (pc + 3) = .ok (.dup, 1)) (da : decode cc (pc + 4) = .ok (.aload_n 0, 1)) (dg : decode cc (pc + 5) = .ok (.getfield idx, 3)) (hF : GF own ref hst idx 0 ff fc) (di : decode cc (pc + 8) = .ok (.invokespecial ic, 3)) (hB : BKF own obj host T cB c f ik ic) (hM : BKM l obj T ⟨obj, "<init>", "(I)V"⟩ cB) : SS l m pc (op_bkF c f fc ff (pc + 11)) := by
  refine ss_bk0 (pi := pc + 8) eb eo d0 d3 di hB hM fun C' K' T' ls st h H => ?_
  unfold op_bkF at H
  split at H
  · rename_i b hb
    refine ⟨_, H.2, ?_⟩
    intro p e s mm args below meth c0 G F R Q loc HH H1 locs cells slots la rr hr hz ho hla kk
    exact bk_get eb eo da dg hF hb H.1 F hr hz ho hla kk
  · exact H.elim
theorem ss_bkG {fc ff idx : Nat} {ref hst : String} (eb : (miT m).2.1 = cc) (eo : (miT m).1.cls = own) (d0 : decode cc pc = .ok (.new ik, 3)) (d3 : decode cc (pc + 3) = .ok (.dup, 1)) (da : decode cc (pc + 4) = .ok (.aload_n 0, 1)) (dg : decode cc (pc + 5) = .ok (.getfield idx, 3)) (d8 : decode cc (pc + 8) = .ok (.iconst 1, 1)) (d9 : decode cc (pc + 9) = .ok (.isub, 1)) (hF : GF own ref hst idx 0 ff fc) (di : decode cc (pc + 10) = .ok (.invokespecial ic, 3)) (hB : BKF own obj host T cB c f ik ic) (hM : BKM l obj T ⟨obj, "<init>", "(I)V"⟩ cB) : SS l m pc (op_bkG c f fc ff (pc + 13)) := by
  refine ss_bk0 (pi := pc + 10) eb eo d0 d3 di hB hM fun C' K' T' ls st h H => ?_
  unfold op_bkG at H
  split at H
  · rename_i b hb
    refine ⟨_, H.2, ?_⟩
    intro p e s mm args below meth c0 G F R Q loc HH H1 locs cells slots la rr hr hz ho hla kk
    refine bk_get eb eo da dg hF hb H.1 F hr hz ho hla ?_
    refine lv_iconst (v := 1) F.1 (F.2.1.trans eb) d8 rfl ?_
    exact lv_isub F.1 (F.2.1.trans eb) d9 kk
  · exact H.elim
end
