/-! SOUND 20: the kinds of calls -/
set_option maxRecDepth 100000
section
variable {l : Launch} {m pc m' n idx L c0 N : Nat} {cc b : ByteArray} {own C host owner : String} {x y : MethodName} {r : Option FieldType} {T : u_T} {hh : List (Nat × Nat × Nat × Nat)}
theorem ok_S (em : miT m' = (y, b, L, r, [])) (eb : (miT m).2.1 = cc) (eo : (miT m).1.cls = own) (hd : decode cc pc = .ok (.invokestatic idx, 3)) (w1 : Cond.methodLink own idx y ∈ lw_all) (w2 : Cond.static y ∈ lw_all) (w3 : Cond.initialized y.cls ∈ lw_all) (w4 : Cond.code y b L r ∈ lw_all) (hdd : y.cls ≠ "java/lang/invoke/MethodHandle" ∧ y.cls ≠ "java/lang/invoke/VarHandle" ∧ (parseMethodDescriptor y.desc).map (fun d => d.parameters.length) = some n) : CallOK l m pc 0 m' n := by
  intro p e s mm args below meth c G F R rm loc h H locs cells slots mc ms la as rest Qc X free hr hz hla hn hk8 hc0 hM hrc hrs hfr hlo hf
  rw [em] at hM hlo
  have hown : s.vm.findClass own = some mm.cls := by rw [← eo]; exact F.2.2.2.1
  exact vx_runS ⟨F.1, F.2.1.trans eb, F.2.2.1, hown, F.hts⟩ hM (va_cwS n F.hts (lw_S w1 w2 w3 w4) rfl hrc hrs hdd ⟨hfr, hlo⟩) ⟨PcC_blind _ _ _, fun U hU hW => ⟨rfl, hU, hW⟩⟩ rfl (by rw [List.length_map]; exact hn) hla (by show (as.reverse ++ rest).map (cv G loc) = _; rw [List.map_append, List.map_reverse]) (by show 2 * 0 + _ ≤ 8; rw [Nat.mul_zero, Nat.zero_add]; exact stk_cat rest 8 hk8) hd hf
theorem ok_SX (em : miT m' = (y, b, L, r, hh)) (hne : hh ≠ []) (eb : (miT m).2.1 = cc) (eo : (miT m).1.cls = own) (hd : decode cc pc = .ok (.invokestatic idx, 3)) (w1 : Cond.methodLink own idx y ∈ lw_all) (w2 : Cond.static y ∈ lw_all) (w3 : Cond.initialized y.cls ∈ lw_all) (w4 : Cond.codeWith y b L r hh ∈ lw_all) (hdd : y.cls ≠ "java/lang/invoke/MethodHandle" ∧ y.cls ≠ "java/lang/invoke/VarHandle" ∧ (parseMethodDescriptor y.desc).map (fun d => d.parameters.length) = some n) : CallOK l m pc 0 m' n := by
  intro p e s mm args below meth c G F R rm loc h H locs cells slots mc ms la as rest Qc X free hr hz hla hn hk8 hc0 hM hrc hrs hfr hlo hf
  rw [em] at hM hlo
  have ew : wsM (y, b, L, r, hh) = wsW_ y b L r hh := by cases hh with | nil => exact absurd rfl hne | cons _ _ => rfl
  rw [ew] at hM
  have hown : s.vm.findClass own = some mm.cls := by rw [← eo]; exact F.2.2.2.1
  exact vx_runSX ⟨F.1, F.2.1.trans eb, F.2.2.1, hown, F.hts⟩ hM (vx_cwSW n F.hts (lw_SW w1 w2 w3 w4) rfl hrc hrs hdd ⟨hfr, hlo⟩) ⟨PcC_blind _ _ _, fun U hU hW => ⟨rfl, hU, hW⟩⟩ rfl (by rw [List.length_map]; exact hn) hla (by show (as.reverse ++ rest).map (cv G loc) = _; rw [List.map_append, List.map_reverse]) (by show 2 * 0 + _ ≤ 8; rw [Nat.mul_zero, Nat.zero_add]; exact stk_cat rest 8 hk8) hd hf
theorem ok_SN (em : miT m' = (y, b, L, r, [])) (eb : (miT m).2.1 = cc) (eo : (miT m).1.cls = own) (hd : decode cc pc = .ok (.invokestatic idx, 3)) (w1 : Cond.methodLinkNest own idx y host ∈ nwT) (w2 : Cond.static y ∈ lw_all) (w3 : Cond.initialized y.cls ∈ lw_all) (w4 : Cond.code y b L r ∈ lw_all) (hdd : y.cls ≠ "java/lang/invoke/MethodHandle" ∧ y.cls ≠ "java/lang/invoke/VarHandle" ∧ (parseMethodDescriptor y.desc).map (fun d => d.parameters.length) = some n) : CallOK l m pc 0 m' n := by
  intro p e s mm args below meth c G F R rm loc h H locs cells slots mc ms la as rest Qc X free hr hz hla hn hk8 hc0 hM hrc hrs hfr hlo hf
  rw [em] at hM hlo
  have hown : s.vm.findClass own = some mm.cls := by rw [← eo]; exact F.2.2.2.1
  exact vx_runSN ⟨F.1, F.2.1.trans eb, F.2.2.1, hown, F.hts⟩ hM ⟨va_cnB n F.hts (lw_meth w4) rfl hrc hrs (F.kf.2.1 _ w1) (F.hts _ w3) hdd ⟨hfr, hlo⟩, F.hts _ w2, trivial⟩ ⟨PcC_blind _ _ _, fun U hU hW => ⟨rfl, hU, hW⟩⟩ rfl (by rw [List.length_map]; exact hn) hla (by show (as.reverse ++ rest).map (cv G loc) = _; rw [List.map_append, List.map_reverse]) (by show 2 * 0 + _ ≤ 8; rw [Nat.mul_zero, Nat.zero_add]; exact stk_cat rest 8 hk8) hd hf
theorem ok_V (hc : 7 < c0) (hcl : clT[clI c0]? = some (C, T, N)) (em : miT m' = (y, b, L, r, [])) (eb : (miT m).2.1 = cc) (eo : (miT m).1.cls = own) (hd : decode cc pc = .ok (.invokevirtual idx, 3)) (eC : y.cls = C) (w1 : Cond.methodLink own idx y ∈ lw_all) (w2 : Cond.instanceMethod y ∈ lw_all) (w3 : Cond.selects C y y ∈ lw_all) (w4 : Cond.initialized C ∈ lw_all) (w5 : Cond.code y b L r ∈ lw_all) (hdd : y.cls ≠ "java/lang/invoke/MethodHandle" ∧ y.cls ≠ "java/lang/invoke/VarHandle" ∧ (parseMethodDescriptor y.desc).map (fun d => d.parameters.length) = some n) : CallOK l m pc c0 m' (n + 1) := by
  intro p e s mm args below meth c G F R rm loc h H locs cells slots mc ms la as rest Qc X free hr hz hla hn hk8 hc0 hM hrc hrs hfr hlo hf
  rw [em] at hM hlo
  have hown : s.vm.findClass own = some mm.cls := by rw [← eo]; exact F.2.2.2.1
  obtain ⟨a, as', rfl, ha⟩ := hc0 (by omega); obtain ⟨-, -, ha0, ha1⟩ := hr.at ha (by omega) (by omega); have ec : cv G loc (.ref a) = .ref (loc a) := cr_loc ha0 ha1 hz; have hrec := hr.recv F ha hc hcl
  rw [List.map_cons, ec] at hM ⊢
  exact vx_runV ⟨F.1, F.2.1.trans eb, F.2.2.1, hown, F.hts⟩ hM (cwV n F.hts (lw_V w1 w2 w3 w4 w5) rfl hrc hrs ⟨eC, hdd⟩ ⟨hfr, hlo⟩) ⟨PcC_blind _ _ _, hrec, fun U hU hW => ⟨rfl, hU, hW⟩⟩ rfl (by rw [List.length_map]; simpa using hn) hla (by show ((.ref a :: as').reverse ++ rest).map (cv G loc) = _; rw [List.map_append, List.reverse_cons, List.map_append, List.map_reverse, List.append_assoc]; show _ ++ ([cv G loc (.ref a)] ++ _) = _; rw [ec]; rfl) (by show 2 * 0 + _ ≤ 8; rw [Nat.mul_zero, Nat.zero_add]; exact stk_cat rest 8 hk8) hd hf
theorem ok_VX (hc : 7 < c0) (hcl : clT[clI c0]? = some (C, T, N)) (em : miT m' = (y, b, L, r, hh)) (hne : hh ≠ []) (eb : (miT m).2.1 = cc) (eo : (miT m).1.cls = own) (hd : decode cc pc = .ok (.invokevirtual idx, 3)) (eC : y.cls = C) (w1 : Cond.methodLink own idx y ∈ lw_all) (w2 : Cond.instanceMethod y ∈ lw_all) (w3 : Cond.selects C y y ∈ lw_all) (w4 : Cond.initialized C ∈ lw_all) (w5 : Cond.codeWith y b L r hh ∈ lw_all) (hdd : y.cls ≠ "java/lang/invoke/MethodHandle" ∧ y.cls ≠ "java/lang/invoke/VarHandle" ∧ (parseMethodDescriptor y.desc).map (fun d => d.parameters.length) = some n) : CallOK l m pc c0 m' (n + 1) := by
  intro p e s mm args below meth c G F R rm loc h H locs cells slots mc ms la as rest Qc X free hr hz hla hn hk8 hc0 hM hrc hrs hfr hlo hf
  rw [em] at hM hlo
  have ew : wsM (y, b, L, r, hh) = wsW_ y b L r hh := by cases hh with | nil => exact absurd rfl hne | cons _ _ => rfl
  rw [ew] at hM
  have hown : s.vm.findClass own = some mm.cls := by rw [← eo]; exact F.2.2.2.1
  obtain ⟨a, as', rfl, ha⟩ := hc0 (by omega); obtain ⟨-, -, ha0, ha1⟩ := hr.at ha (by omega) (by omega); have ec : cv G loc (.ref a) = .ref (loc a) := cr_loc ha0 ha1 hz; have hrec := hr.recv F ha hc hcl
  rw [List.map_cons, ec] at hM ⊢
  exact vx_runVX ⟨F.1, F.2.1.trans eb, F.2.2.1, hown, F.hts⟩ hM (vx_cwVW n F.hts (lw_VW w1 w2 w3 w4 w5) rfl hrc hrs ⟨eC, hdd⟩ ⟨hfr, hlo⟩) ⟨PcC_blind _ _ _, hrec, fun U hU hW => ⟨rfl, hU, hW⟩⟩ rfl (by rw [List.length_map]; simpa using hn) hla (by show ((.ref a :: as').reverse ++ rest).map (cv G loc) = _; rw [List.map_append, List.reverse_cons, List.map_append, List.map_reverse, List.append_assoc]; show _ ++ ([cv G loc (.ref a)] ++ _) = _; rw [ec]; rfl) (by show 2 * 0 + _ ≤ 8; rw [Nat.mul_zero, Nat.zero_add]; exact stk_cat rest 8 hk8) hd hf
theorem ok_VN (hc : 7 < c0) (hcl : clT[clI c0]? = some (C, T, N)) (em : miT m' = (y, b, L, r, [])) (eb : (miT m).2.1 = cc) (eo : (miT m).1.cls = own) (hd : decode cc pc = .ok (.invokevirtual idx, 3)) (w1 : Cond.methodLinkNest own idx y host ∈ nwT) (w2 : Cond.instanceMethod y ∈ lw_all) (w3 : Cond.selects C y y ∈ lw_all) (w4 : Cond.initialized y.cls ∈ lw_all) (w5 : Cond.code y b L r ∈ lw_all) (hdd : y.cls ≠ "java/lang/invoke/MethodHandle" ∧ y.cls ≠ "java/lang/invoke/VarHandle" ∧ (parseMethodDescriptor y.desc).map (fun d => d.parameters.length) = some n) : CallOK l m pc c0 m' (n + 1) := by
  intro p e s mm args below meth c G F R rm loc h H locs cells slots mc ms la as rest Qc X free hr hz hla hn hk8 hc0 hM hrc hrs hfr hlo hf
  rw [em] at hM hlo
  have hown : s.vm.findClass own = some mm.cls := by rw [← eo]; exact F.2.2.2.1
  obtain ⟨a, as', rfl, ha⟩ := hc0 (by omega); obtain ⟨-, -, ha0, ha1⟩ := hr.at ha (by omega) (by omega); have ec : cv G loc (.ref a) = .ref (loc a) := cr_loc ha0 ha1 hz; have hrec := hr.recv F ha hc hcl
  rw [List.map_cons, ec] at hM ⊢
  exact vx_runVN ⟨F.1, F.2.1.trans eb, F.2.2.1, hown, F.hts⟩ hM ⟨va_cnB n F.hts (lw_meth w5) rfl hrc hrs (F.kf.2.1 _ w1) (F.hts _ w4) hdd ⟨hfr, hlo⟩, F.hts _ w2, F.hts _ w3⟩ ⟨PcC_blind _ _ _, hrec, fun U hU hW => ⟨rfl, hU, hW⟩⟩ rfl (by rw [List.length_map]; simpa using hn) hla (by show ((.ref a :: as').reverse ++ rest).map (cv G loc) = _; rw [List.map_append, List.reverse_cons, List.map_append, List.map_reverse, List.append_assoc]; show _ ++ ([cv G loc (.ref a)] ++ _) = _; rw [ec]; rfl) (by show 2 * 0 + _ ≤ 8; rw [Nat.mul_zero, Nat.zero_add]; exact stk_cat rest 8 hk8) hd hf
theorem ok_I (hc : 7 < c0) (em : miT m' = (y, b, L, none, [])) (eb : (miT m).2.1 = cc) (eo : (miT m).1.cls = own) (hd : decode cc pc = .ok (.invokespecial idx, 3)) (ey : y.name = "<init>") (w1 : Cond.methodLink own idx y ∈ lw_all) (w2 : Cond.instanceMethod y ∈ lw_all) (w4 : Cond.initialized y.cls ∈ lw_all) (w5 : Cond.code y b L none ∈ lw_all) (hdd : y.cls ≠ "java/lang/invoke/MethodHandle" ∧ y.cls ≠ "java/lang/invoke/VarHandle" ∧ (parseMethodDescriptor y.desc).map (fun d => d.parameters.length) = some n) : CallOK l m pc c0 m' (n + 1) := by
  intro p e s mm args below meth c G F R rm loc h H locs cells slots mc ms la as rest Qc X free hr hz hla hn hk8 hc0 hM hrc hrs hfr hlo hf
  rw [em] at hM hlo
  have hown : s.vm.findClass own = some mm.cls := by rw [← eo]; exact F.2.2.2.1
  obtain ⟨a, as', rfl, ha⟩ := hc0 (by omega)
  obtain ⟨-, -, ha0, ha1⟩ := hr.at ha (by omega) (by omega)
  have ec : cv G loc (.ref a) = .ref (loc a) := cr_loc ha0 ha1 hz
  rw [List.map_cons, ec] at hM ⊢
  exact vx_runI ⟨F.1, F.2.1.trans eb, F.2.2.1, hown, F.hts⟩ hM (cwI n F.hts (lw_meth w5) rfl hrc hrs (F.hts _ w4) (F.hts _ w1) (F.hts _ w2) ey hdd ⟨hfr, hlo⟩) ⟨PcC_blind _ _ _, fun U hU hW => ⟨rfl, hU, hW⟩⟩ rfl (by rw [List.length_map]; simpa using hn) hla (by show ((.ref a :: as').reverse ++ rest).map (cv G loc) = _; rw [List.map_append, List.reverse_cons, List.map_append, List.map_reverse, List.append_assoc]; show _ ++ ([cv G loc (.ref a)] ++ _) = _; rw [ec]; rfl) (by show 2 * 0 + _ ≤ 8; rw [Nat.mul_zero, Nat.zero_add]; exact stk_cat rest 8 hk8) hd hf
theorem ok_IN (hc : 7 < c0) (em : miT m' = (y, b, L, none, [])) (eb : (miT m).2.1 = cc) (eo : (miT m).1.cls = own) (hd : decode cc pc = .ok (.invokespecial idx, 3)) (ey : y.name = "<init>") (w1 : Cond.methodLinkNest own idx y host ∈ nwT) (w2 : Cond.instanceMethod y ∈ lw_all) (w4 : Cond.initialized y.cls ∈ lw_all) (w5 : Cond.code y b L none ∈ lw_all) (hdd : y.cls ≠ "java/lang/invoke/MethodHandle" ∧ y.cls ≠ "java/lang/invoke/VarHandle" ∧ (parseMethodDescriptor y.desc).map (fun d => d.parameters.length) = some n) : CallOK l m pc c0 m' (n + 1) := by
  intro p e s mm args below meth c G F R rm loc h H locs cells slots mc ms la as rest Qc X free hr hz hla hn hk8 hc0 hM hrc hrs hfr hlo hf
  rw [em] at hM hlo
  have hown : s.vm.findClass own = some mm.cls := by rw [← eo]; exact F.2.2.2.1
  obtain ⟨a, as', rfl, ha⟩ := hc0 (by omega)
  obtain ⟨-, -, ha0, ha1⟩ := hr.at ha (by omega) (by omega)
  have ec : cv G loc (.ref a) = .ref (loc a) := cr_loc ha0 ha1 hz
  rw [List.map_cons, ec] at hM ⊢
  exact vx_runIN ⟨F.1, F.2.1.trans eb, F.2.2.1, hown, F.hts⟩ hM ⟨va_cnB n F.hts (lw_meth w5) rfl hrc hrs (F.kf.2.1 _ w1) (F.hts _ w4) hdd ⟨hfr, hlo⟩, ey, F.hts _ w2⟩ ⟨PcC_blind _ _ _, fun U hU hW => ⟨rfl, hU, hW⟩⟩ rfl (by rw [List.length_map]; simpa using hn) hla (by show ((.ref a :: as').reverse ++ rest).map (cv G loc) = _; rw [List.map_append, List.reverse_cons, List.map_append, List.map_reverse, List.append_assoc]; show _ ++ ([cv G loc (.ref a)] ++ _) = _; rw [ec]; rfl) (by show 2 * 0 + _ ≤ 8; rw [Nat.mul_zero, Nat.zero_add]; exact stk_cat rest 8 hk8) hd hf
theorem lw_U (w1 : Cond.methodLink own idx x ∈ lw_all) (w2 : Cond.sameMethod x.cls owner x.name x.desc ∈ lw_all) (w3 : Cond.selects C x y ∈ lw_all) (w4 : Cond.instanceMethod y ∈ lw_all) (w5 : Cond.initialized y.cls ∈ lw_all) (w6 : Cond.code y b L r ∈ lw_all) : GoodIn lw_all (va_wsU own idx C owner x y (ws_ y b L r)) := by
  refine lw_app ?_ (lw_meth w6)
  intro w hw
  simp only [List.mem_cons, List.not_mem_nil, or_false] at hw
  rcases hw with e | e | e | e | e <;> rw [e] <;> assumption
theorem lw_O (w1 : Cond.methodLink own idx x ∈ lw_all) (w2 : Cond.sameMethod x.cls owner x.name x.desc ∈ lw_all) (w7 : Cond.instanceMethod ⟨owner, x.name, x.desc⟩ ∈ lw_all) (w3 : Cond.selects C x y ∈ lw_all) (w4 : Cond.instanceMethod y ∈ lw_all) (w5 : Cond.initialized y.cls ∈ lw_all) (w6 : Cond.code y b L r ∈ lw_all) : GoodIn lw_all (va_wsO own idx C owner x y (ws_ y b L r)) := by
  refine lw_app ?_ (lw_meth w6)
  intro w hw
  simp only [List.mem_cons, List.not_mem_nil, or_false] at hw
  rcases hw with e | e | e | e | e | e <;> rw [e] <;> assumption
/-- an inherited method -/
theorem ok_U (hc : 7 < c0) (hcl : clT[clI c0]? = some (C, T, N)) (em : miT m' = (y, b, L, r, [])) (eb : (miT m).2.1 = cc) (eo : (miT m).1.cls = own) (hd : decode cc pc = .ok (.invokevirtual idx, 3)) (eyx : y = ⟨owner, x.name, x.desc⟩) (w1 : Cond.methodLink own idx x ∈ lw_all) (w2 : Cond.sameMethod x.cls owner x.name x.desc ∈ lw_all) (w3 : Cond.selects C x y ∈ lw_all) (w4 : Cond.instanceMethod y ∈ lw_all) (w5 : Cond.initialized y.cls ∈ lw_all) (w6 : Cond.code y b L r ∈ lw_all) (hdd : owner ≠ "java/lang/invoke/MethodHandle" ∧ owner ≠ "java/lang/invoke/VarHandle" ∧ (parseMethodDescriptor x.desc).map (fun d => d.parameters.length) = some n) : CallOK l m pc c0 m' (n + 1) := by
  intro p e s mm args below meth c G F R rm loc h H locs cells slots mc ms la as rest Qc X free hr hz hla hn hk8 hc0 hM hrc hrs hfr hlo hf
  rw [em] at hM hlo
  have hown : s.vm.findClass own = some mm.cls := by rw [← eo]; exact F.2.2.2.1
  obtain ⟨a, as', rfl, ha⟩ := hc0 (by omega); obtain ⟨-, -, ha0, ha1⟩ := hr.at ha (by omega) (by omega); have ec : cv G loc (.ref a) = .ref (loc a) := cr_loc ha0 ha1 hz; have hrec := hr.recv F ha hc hcl
  rw [List.map_cons, ec] at hM ⊢
  exact vx_runU ⟨F.1, F.2.1.trans eb, F.2.2.1, hown, F.hts⟩ hM (va_cwU n F.hts (lw_U w1 w2 w3 w4 w5 w6) rfl hrc hrs eyx hdd ⟨hfr, hlo⟩) ⟨PcC_blind _ _ _, hrec, fun U hU hW => ⟨rfl, hU, hW⟩⟩ rfl (by rw [List.length_map]; simpa using hn) hla (by show ((.ref a :: as').reverse ++ rest).map (cv G loc) = _; rw [List.map_append, List.reverse_cons, List.map_append, List.map_reverse, List.append_assoc]; show _ ++ ([cv G loc (.ref a)] ++ _) = _; rw [ec]; rfl) (by show 2 * 0 + _ ≤ 8; rw [Nat.mul_zero, Nat.zero_add]; exact stk_cat rest 8 hk8) hd hf
/-- what is named is abstract -/
theorem ok_A (hc : 7 < c0) (hcl : clT[clI c0]? = some (C, T, N)) (em : miT m' = (y, b, L, r, [])) (eb : (miT m).2.1 = cc) (eo : (miT m).1.cls = own) (hd : decode cc pc = .ok (.invokevirtual idx, 3)) (wd : Cond.declares ⟨owner, x.name, x.desc⟩ ∈ nwT) (w1 : Cond.methodLink own idx x ∈ lw_all) (w2 : Cond.sameMethod x.cls owner x.name x.desc ∈ lw_all) (w3 : Cond.selects C x y ∈ lw_all) (w4 : Cond.instanceMethod y ∈ lw_all) (w5 : Cond.initialized y.cls ∈ lw_all) (w6 : Cond.code y b L r ∈ lw_all) (hdd : owner ≠ "java/lang/invoke/MethodHandle" ∧ owner ≠ "java/lang/invoke/VarHandle" ∧ (parseMethodDescriptor x.desc).map (fun d => d.parameters.length) = some n) : CallOK l m pc c0 m' (n + 1) := by
  intro p e s mm args below meth c G F R rm loc h H locs cells slots mc ms la as rest Qc X free hr hz hla hn hk8 hc0 hM hrc hrs hfr hlo hf
  rw [em] at hM hlo
  have hown : s.vm.findClass own = some mm.cls := by rw [← eo]; exact F.2.2.2.1
  obtain ⟨a, as', rfl, ha⟩ := hc0 (by omega); obtain ⟨-, -, ha0, ha1⟩ := hr.at ha (by omega) (by omega); have ec : cv G loc (.ref a) = .ref (loc a) := cr_loc ha0 ha1 hz; have hrec := hr.recv F ha hc hcl
  rw [List.map_cons, ec] at hM ⊢
  exact vx_runU ⟨F.1, F.2.1.trans eb, F.2.2.1, hown, F.hts⟩ hM (va_cwA n F.hts (lw_U w1 w2 w3 w4 w5 w6) rfl hrc hrs (F.kf.2.1 _ wd) hdd ⟨hfr, hlo⟩) ⟨PcC_blind _ _ _, hrec, fun U hU hW => ⟨rfl, hU, hW⟩⟩ rfl (by rw [List.length_map]; simpa using hn) hla (by show ((.ref a :: as').reverse ++ rest).map (cv G loc) = _; rw [List.map_append, List.reverse_cons, List.map_append, List.map_reverse, List.append_assoc]; show _ ++ ([cv G loc (.ref a)] ++ _) = _; rw [ec]; rfl) (by show 2 * 0 + _ ≤ 8; rw [Nat.mul_zero, Nat.zero_add]; exact stk_cat rest 8 hk8) hd hf
/-- an overriding method -/
theorem ok_O (hc : 7 < c0) (hcl : clT[clI c0]? = some (C, T, N)) (em : miT m' = (y, b, L, r, [])) (eb : (miT m).2.1 = cc) (eo : (miT m).1.cls = own) (hd : decode cc pc = .ok (.invokevirtual idx, 3)) {b0 : ByteArray} {m0 : Nat} {r0 : Option FieldType} (w0 : Cond.code ⟨owner, x.name, x.desc⟩ b0 m0 r0 ∈ lw_all) (w7 : Cond.instanceMethod ⟨owner, x.name, x.desc⟩ ∈ lw_all) (w1 : Cond.methodLink own idx x ∈ lw_all) (w2 : Cond.sameMethod x.cls owner x.name x.desc ∈ lw_all) (w3 : Cond.selects C x y ∈ lw_all) (w4 : Cond.instanceMethod y ∈ lw_all) (w5 : Cond.initialized y.cls ∈ lw_all) (w6 : Cond.code y b L r ∈ lw_all) (hdd : owner ≠ "java/lang/invoke/MethodHandle" ∧ owner ≠ "java/lang/invoke/VarHandle" ∧ (parseMethodDescriptor x.desc).map (fun d => d.parameters.length) = some n) : CallOK l m pc c0 m' (n + 1) := by
  intro p e s mm args below meth c G F R rm loc h H locs cells slots mc ms la as rest Qc X free hr hz hla hn hk8 hc0 hM hrc hrs hfr hlo hf
  rw [em] at hM hlo
  have hown : s.vm.findClass own = some mm.cls := by rw [← eo]; exact F.2.2.2.1
  obtain ⟨a, as', rfl, ha⟩ := hc0 (by omega); obtain ⟨-, -, ha0, ha1⟩ := hr.at ha (by omega) (by omega); have ec : cv G loc (.ref a) = .ref (loc a) := cr_loc ha0 ha1 hz; have hrec := hr.recv F ha hc hcl
  rw [List.map_cons, ec] at hM ⊢
  exact vx_runU ⟨F.1, F.2.1.trans eb, F.2.2.1, hown, F.hts⟩ hM (va_cwO n F.hts (lw_O w1 w2 w7 w3 w4 w5 w6) rfl hrc hrs w0 hdd ⟨hfr, hlo⟩) ⟨PcC_blind _ _ _, hrec, fun U hU hW => ⟨rfl, hU, hW⟩⟩ rfl (by rw [List.length_map]; simpa using hn) hla (by show ((.ref a :: as').reverse ++ rest).map (cv G loc) = _; rw [List.map_append, List.reverse_cons, List.map_append, List.map_reverse, List.append_assoc]; show _ ++ ([cv G loc (.ref a)] ++ _) = _; rw [ec]; rfl) (by show 2 * 0 + _ ≤ 8; rw [Nat.mul_zero, Nat.zero_add]; exact stk_cat rest 8 hk8) hd hf
end
