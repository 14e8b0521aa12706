/-! ROWS: written by gen/ss.py: links, fields, classes, by their places -/
set_option maxRecDepth 100000
theorem mok_Md_compile : MOK m_Md_compile := ⟨by decide +kernel, by decide, cd_Md_compile, pg_Md_compile⟩
theorem hdd_Md_emit_ : yX14_emit.cls ≠ "java/lang/invoke/MethodHandle" ∧ yX14_emit.cls ≠ "java/lang/invoke/VarHandle" ∧ (parseMethodDescriptor yX14_emit.desc).map (fun d => d.parameters.length) = some 3 := by decide +kernel
theorem mok_Md_emit : MOK m_Md_emit := ⟨by decide +kernel, by decide, cd_Md_emit, pg_Md_emit⟩
theorem pf_Md_701_24 {m : Nat} : PF m "LibraryDeskModel" "LibraryDeskModel" "LibraryDesk" 701 0 195 .int 24 := ⟨RX14, TX14, 131, 54, tyX14, by decide, clr_24, in_X14, tyX14_ok, nmX14, by decide, rfl, nd_24, Or.inl ⟨q4547, rfl⟩, rfl, by decide +kernel⟩
theorem gf_Md_701_24 : GF "LibraryDeskModel" "LibraryDeskModel" "LibraryDesk" 701 0 195 24 := ⟨RX14, TX14, 131, 54, by decide, clr_24, in_X14, by decide, rfl, Or.inl q4547, rfl⟩
theorem pf_Md_704_24 {m : Nat} : PF m "LibraryDeskModel" "LibraryDeskModel" "LibraryDesk" 704 2 196 (.array .int) 24 := ⟨RX14, TX14, 131, 55, tyX14, by decide, clr_24, in_X14, tyX14_ok, nmX14, by decide, rfl, nd_24, Or.inl ⟨q4548, rfl⟩, rfl, by decide +kernel⟩
theorem gf_Md_668_24 : GF "LibraryDeskModel" "LibraryDeskModel" "LibraryDesk" 668 0 202 24 := ⟨RX14, TX14, 131, 61, by decide, clr_24, in_X14, by decide, rfl, Or.inl q4554, rfl⟩
theorem gf_Md_143_24 : GF "LibraryDeskModel" "LibraryDeskModel" "LibraryDesk" 143 2 205 24 := ⟨RX14, TX14, 131, 64, by decide, clr_24, in_X14, by decide, rfl, Or.inl q4557, rfl⟩
theorem hdd_Md_newSearch_ : yX14_newSearch.cls ≠ "java/lang/invoke/MethodHandle" ∧ yX14_newSearch.cls ≠ "java/lang/invoke/VarHandle" ∧ (parseMethodDescriptor yX14_newSearch.desc).map (fun d => d.parameters.length) = some 0 := by decide +kernel
theorem mok_Md_newSearch : MOK m_Md_newSearch := ⟨by decide +kernel, by decide, cd_Md_newSearch, pg_Md_newSearch⟩
theorem gf_Md_113_24 : GF "LibraryDeskModel" "LibraryDeskModel" "LibraryDesk" 113 2 186 24 := ⟨RX14, TX14, 131, 45, by decide, clr_24, in_X14, by decide, rfl, Or.inl q4538, rfl⟩
theorem gf_Md_659_24 : GF "LibraryDeskModel" "LibraryDeskModel" "LibraryDesk" 659 0 189 24 := ⟨RX14, TX14, 131, 48, by decide, clr_24, in_X14, by decide, rfl, Or.inl q4541, rfl⟩
theorem gf_Md_116_24 : GF "LibraryDeskModel" "LibraryDeskModel" "LibraryDesk" 116 2 187 24 := ⟨RX14, TX14, 131, 46, by decide, clr_24, in_X14, by decide, rfl, Or.inl q4539, rfl⟩
theorem hdd_Md_part_ : yX14_part.cls ≠ "java/lang/invoke/MethodHandle" ∧ yX14_part.cls ≠ "java/lang/invoke/VarHandle" ∧ (parseMethodDescriptor yX14_part.desc).map (fun d => d.parameters.length) = some 3 := by decide +kernel
theorem mok_Md_part : MOK m_Md_part := ⟨by decide +kernel, by decide, cd_Md_part, pg_Md_part⟩
theorem hdd_Md_repeat_ : yX14_repeat.cls ≠ "java/lang/invoke/MethodHandle" ∧ yX14_repeat.cls ≠ "java/lang/invoke/VarHandle" ∧ (parseMethodDescriptor yX14_repeat.desc).map (fun d => d.parameters.length) = some 2 := by decide +kernel
theorem mok_Md_repeat : MOK m_Md_repeat := ⟨by decide +kernel, by decide, cd_Md_repeat, pg_Md_repeat⟩
theorem gf_Md_110_24 : GF "LibraryDeskModel" "LibraryDeskModel" "LibraryDesk" 110 2 185 24 := ⟨RX14, TX14, 131, 44, by decide, clr_24, in_X14, by decide, rfl, Or.inl q4537, rfl⟩
theorem gf_Md_119_24 : GF "LibraryDeskModel" "LibraryDeskModel" "LibraryDesk" 119 2 188 24 := ⟨RX14, TX14, 131, 47, by decide, clr_24, in_X14, by decide, rfl, Or.inl q4540, rfl⟩
theorem gf_Md_662_24 : GF "LibraryDeskModel" "LibraryDeskModel" "LibraryDesk" 662 0 191 24 := ⟨RX14, TX14, 131, 50, by decide, clr_24, in_X14, by decide, rfl, Or.inl q4543, rfl⟩
theorem gf_Md_131_24 : GF "LibraryDeskModel" "LibraryDeskModel" "LibraryDesk" 131 2 198 24 := ⟨RX14, TX14, 131, 57, by decide, clr_24, in_X14, by decide, rfl, Or.inl q4550, rfl⟩
theorem gf_Md_665_24 : GF "LibraryDeskModel" "LibraryDeskModel" "LibraryDesk" 665 0 201 24 := ⟨RX14, TX14, 131, 60, by decide, clr_24, in_X14, by decide, rfl, Or.inl q4553, rfl⟩
theorem gf_Md_134_24 : GF "LibraryDeskModel" "LibraryDeskModel" "LibraryDesk" 134 2 199 24 := ⟨RX14, TX14, 131, 58, by decide, clr_24, in_X14, by decide, rfl, Or.inl q4551, rfl⟩
theorem gf_Md_685_24 : GF "LibraryDeskModel" "LibraryDeskModel" "LibraryDesk" 685 0 190 24 := ⟨RX14, TX14, 131, 49, by decide, clr_24, in_X14, by decide, rfl, Or.inl q4542, rfl⟩
theorem hdd_Md_split_ : yX14_split.cls ≠ "java/lang/invoke/MethodHandle" ∧ yX14_split.cls ≠ "java/lang/invoke/VarHandle" ∧ (parseMethodDescriptor yX14_split.desc).map (fun d => d.parameters.length) = some 4 := by decide +kernel
theorem mok_Md_split : MOK m_Md_split := ⟨by decide +kernel, by decide, cd_Md_split, pg_Md_split⟩
theorem hdd_Md_mend_ : yX14_mend.cls ≠ "java/lang/invoke/MethodHandle" ∧ yX14_mend.cls ≠ "java/lang/invoke/VarHandle" ∧ (parseMethodDescriptor yX14_mend.desc).map (fun d => d.parameters.length) = some 4 := by decide +kernel
theorem mok_Md_mend : MOK m_Md_mend := ⟨by decide +kernel, by decide, cd_Md_mend, pg_Md_mend⟩
theorem hdd_Md_clearNotes_ : yX14_clearNotes.cls ≠ "java/lang/invoke/MethodHandle" ∧ yX14_clearNotes.cls ≠ "java/lang/invoke/VarHandle" ∧ (parseMethodDescriptor yX14_clearNotes.desc).map (fun d => d.parameters.length) = some 2 := by decide +kernel
theorem mok_Md_clearNotes : MOK m_Md_clearNotes := ⟨by decide +kernel, by decide, cd_Md_clearNotes, pg_Md_clearNotes⟩
theorem gf_Md_122_24 : GF "LibraryDeskModel" "LibraryDeskModel" "LibraryDesk" 122 2 192 24 := ⟨RX14, TX14, 131, 51, by decide, clr_24, in_X14, by decide, rfl, Or.inl q4544, rfl⟩
theorem gf_Md_128_24 : GF "LibraryDeskModel" "LibraryDeskModel" "LibraryDesk" 128 2 194 24 := ⟨RX14, TX14, 131, 53, by decide, clr_24, in_X14, by decide, rfl, Or.inl q4546, rfl⟩
theorem pf_Md_695_24 {m : Nat} : PF m "LibraryDeskModel" "LibraryDeskModel" "LibraryDesk" 695 0 204 .int 24 := ⟨RX14, TX14, 131, 63, tyX14, by decide, clr_24, in_X14, tyX14_ok, nmX14, by decide, rfl, nd_24, Or.inl ⟨q4556, rfl⟩, rfl, by decide +kernel⟩
theorem hdd_Md_go_ : yX14_go.cls ≠ "java/lang/invoke/MethodHandle" ∧ yX14_go.cls ≠ "java/lang/invoke/VarHandle" ∧ (parseMethodDescriptor yX14_go.desc).map (fun d => d.parameters.length) = some 3 := by decide +kernel
theorem mok_Md_go : MOK m_Md_go := ⟨by decide +kernel, by decide, cd_Md_go, pg_Md_go⟩
theorem gf_Md_695_24 : GF "LibraryDeskModel" "LibraryDeskModel" "LibraryDesk" 695 0 204 24 := ⟨RX14, TX14, 131, 63, by decide, clr_24, in_X14, by decide, rfl, Or.inl q4556, rfl⟩
theorem hdd_Md_push_ : yX14_push.cls ≠ "java/lang/invoke/MethodHandle" ∧ yX14_push.cls ≠ "java/lang/invoke/VarHandle" ∧ (parseMethodDescriptor yX14_push.desc).map (fun d => d.parameters.length) = some 1 := by decide +kernel
theorem mok_Md_push : MOK m_Md_push := ⟨by decide +kernel, by decide, cd_Md_push, pg_Md_push⟩
theorem gf_Md_140_24 : GF "LibraryDeskModel" "LibraryDeskModel" "LibraryDesk" 140 2 203 24 := ⟨RX14, TX14, 131, 62, by decide, clr_24, in_X14, by decide, rfl, Or.inl q4555, rfl⟩
theorem hdd_Md_restored_ : yX14_restored.cls ≠ "java/lang/invoke/MethodHandle" ∧ yX14_restored.cls ≠ "java/lang/invoke/VarHandle" ∧ (parseMethodDescriptor yX14_restored.desc).map (fun d => d.parameters.length) = some 1 := by decide +kernel
theorem mok_Md_restored : MOK m_Md_restored := ⟨by decide +kernel, by decide, cd_Md_restored, pg_Md_restored⟩
theorem hdd_Md_thread_ : yX14_thread.cls ≠ "java/lang/invoke/MethodHandle" ∧ yX14_thread.cls ≠ "java/lang/invoke/VarHandle" ∧ (parseMethodDescriptor yX14_thread.desc).map (fun d => d.parameters.length) = some 3 := by decide +kernel
theorem mok_Md_thread : MOK m_Md_thread := ⟨by decide +kernel, by decide, cd_Md_thread, pg_Md_thread⟩
theorem hdd_Md_wasHere_ : yX14_wasHere.cls ≠ "java/lang/invoke/MethodHandle" ∧ yX14_wasHere.cls ≠ "java/lang/invoke/VarHandle" ∧ (parseMethodDescriptor yX14_wasHere.desc).map (fun d => d.parameters.length) = some 2 := by decide +kernel
theorem mok_Md_wasHere : MOK m_Md_wasHere := ⟨by decide +kernel, by decide, cd_Md_wasHere, pg_Md_wasHere⟩
theorem gf_Md_704_24 : GF "LibraryDeskModel" "LibraryDeskModel" "LibraryDesk" 704 2 196 24 := ⟨RX14, TX14, 131, 55, by decide, clr_24, in_X14, by decide, rfl, Or.inl q4548, rfl⟩
theorem hdd_Md_has_ : yX14_has.cls ≠ "java/lang/invoke/MethodHandle" ∧ yX14_has.cls ≠ "java/lang/invoke/VarHandle" ∧ (parseMethodDescriptor yX14_has.desc).map (fun d => d.parameters.length) = some 2 := by decide +kernel
theorem mok_Md_has : MOK m_Md_has := ⟨by decide +kernel, by decide, cd_Md_has, pg_Md_has⟩
theorem hdd_Md_before_ : yX14_before.cls ≠ "java/lang/invoke/MethodHandle" ∧ yX14_before.cls ≠ "java/lang/invoke/VarHandle" ∧ (parseMethodDescriptor yX14_before.desc).map (fun d => d.parameters.length) = some 2 := by decide +kernel
theorem mok_Md_before : MOK m_Md_before := ⟨by decide +kernel, by decide, cd_Md_before, pg_Md_before⟩
theorem gf_Md_146_24 : GF "LibraryDeskModel" "LibraryDeskModel" "LibraryDesk" 146 2 206 24 := ⟨RX14, TX14, 131, 65, by decide, clr_24, in_X14, by decide, rfl, Or.inl q4558, rfl⟩
theorem hdd_Md_isEdge_ : yX14_isEdge.cls ≠ "java/lang/invoke/MethodHandle" ∧ yX14_isEdge.cls ≠ "java/lang/invoke/VarHandle" ∧ (parseMethodDescriptor yX14_isEdge.desc).map (fun d => d.parameters.length) = some 1 := by decide +kernel
theorem mok_Md_isEdge : MOK m_Md_isEdge := ⟨by decide +kernel, by decide, cd_Md_isEdge, pg_Md_isEdge⟩
theorem gf_Md_732_24 : GF "LibraryDeskModel" "LibraryDeskModel" "LibraryDesk" 732 0 197 24 := ⟨RX14, TX14, 131, 56, by decide, clr_24, in_X14, by decide, rfl, Or.inl q4549, rfl⟩
theorem gf_Md_125_24 : GF "LibraryDeskModel" "LibraryDeskModel" "LibraryDesk" 125 2 193 24 := ⟨RX14, TX14, 131, 52, by decide, clr_24, in_X14, by decide, rfl, Or.inl q4545, rfl⟩
theorem pf_Md_739_24 {m : Nat} : PF m "LibraryDeskModel" "LibraryDeskModel" "LibraryDesk" 739 0 207 .boolean 24 := ⟨RX14, TX14, 131, 66, tyX14, by decide, clr_24, in_X14, tyX14_ok, nmX14, by decide, rfl, nd_24, Or.inl ⟨q4559, rfl⟩, rfl, by decide +kernel⟩
theorem gf_Md_739_24 : GF "LibraryDeskModel" "LibraryDeskModel" "LibraryDesk" 739 0 207 24 := ⟨RX14, TX14, 131, 66, by decide, clr_24, in_X14, by decide, rfl, Or.inl q4559, rfl⟩
theorem hdd_Md_substitute_ : yX14_substitute.cls ≠ "java/lang/invoke/MethodHandle" ∧ yX14_substitute.cls ≠ "java/lang/invoke/VarHandle" ∧ (parseMethodDescriptor yX14_substitute.desc).map (fun d => d.parameters.length) = some 1 := by decide +kernel
theorem mok_Md_substitute : MOK m_Md_substitute := ⟨by decide +kernel, by decide, cd_Md_substitute, pg_Md_substitute⟩
theorem hdd_Md_needForm_ : yX14_needForm.cls ≠ "java/lang/invoke/MethodHandle" ∧ yX14_needForm.cls ≠ "java/lang/invoke/VarHandle" ∧ (parseMethodDescriptor yX14_needForm.desc).map (fun d => d.parameters.length) = some 0 := by decide +kernel
theorem mok_Md_needForm : MOK m_Md_needForm := ⟨by decide +kernel, by decide, cd_Md_needForm, pg_Md_needForm⟩
theorem pf_Md_765_24 {m : Nat} : PF m "LibraryDeskModel" "LibraryDeskModel" "LibraryDesk" 765 0 208 .int 24 := ⟨RX14, TX14, 131, 67, tyX14, by decide, clr_24, in_X14, tyX14_ok, nmX14, by decide, rfl, nd_24, Or.inl ⟨q4560, rfl⟩, rfl, by decide +kernel⟩
theorem gf_Md_765_24 : GF "LibraryDeskModel" "LibraryDeskModel" "LibraryDesk" 765 0 208 24 := ⟨RX14, TX14, 131, 67, by decide, clr_24, in_X14, by decide, rfl, Or.inl q4560, rfl⟩
theorem hdd_Md_field_ : yX14_field.cls ≠ "java/lang/invoke/MethodHandle" ∧ yX14_field.cls ≠ "java/lang/invoke/VarHandle" ∧ (parseMethodDescriptor yX14_field.desc).map (fun d => d.parameters.length) = some 0 := by decide +kernel
theorem mok_Md_field : MOK m_Md_field := ⟨by decide +kernel, by decide, cd_Md_field, pg_Md_field⟩
theorem hdd_Md_value_ : yX14_value.cls ≠ "java/lang/invoke/MethodHandle" ∧ yX14_value.cls ≠ "java/lang/invoke/VarHandle" ∧ (parseMethodDescriptor yX14_value.desc).map (fun d => d.parameters.length) = some 2 := by decide +kernel
theorem mok_Md_value : MOK m_Md_value := ⟨by decide +kernel, by decide, cd_Md_value, pg_Md_value⟩
theorem gf_Md_757_24 : GF "LibraryDeskModel" "LibraryDeskModel" "LibraryDesk" 757 0 210 24 := ⟨RX14, TX14, 131, 69, by decide, clr_24, in_X14, by decide, rfl, Or.inl q4562, rfl⟩
theorem gf_Md_781_24 : GF "LibraryDeskModel" "LibraryDeskModel" "LibraryDesk" 781 0 213 24 := ⟨RX14, TX14, 131, 72, by decide, clr_24, in_X14, by decide, rfl, Or.inl q4565, rfl⟩
theorem gf_Md_754_24 : GF "LibraryDeskModel" "LibraryDeskModel" "LibraryDesk" 754 0 209 24 := ⟨RX14, TX14, 131, 68, by decide, clr_24, in_X14, by decide, rfl, Or.inl q4561, rfl⟩
theorem gf_Md_149_24 : GF "LibraryDeskModel" "LibraryDeskModel" "LibraryDesk" 149 2 212 24 := ⟨RX14, TX14, 131, 71, by decide, clr_24, in_X14, by decide, rfl, Or.inl q4564, rfl⟩
theorem pf_Md_754_24 {m : Nat} : PF m "LibraryDeskModel" "LibraryDeskModel" "LibraryDesk" 754 0 209 .int 24 := ⟨RX14, TX14, 131, 68, tyX14, by decide, clr_24, in_X14, tyX14_ok, nmX14, by decide, rfl, nd_24, Or.inl ⟨q4561, rfl⟩, rfl, by decide +kernel⟩
theorem pf_Md_757_24 {m : Nat} : PF m "LibraryDeskModel" "LibraryDeskModel" "LibraryDesk" 757 0 210 .int 24 := ⟨RX14, TX14, 131, 69, tyX14, by decide, clr_24, in_X14, tyX14_ok, nmX14, by decide, rfl, nd_24, Or.inl ⟨q4562, rfl⟩, rfl, by decide +kernel⟩
theorem srr_71 : ("LibraryDeskModel", 763, "-0+ ,", 71) ∈ srT := List.mem_of_getElem? (i := 71) rfl
theorem pf_Md_760_24 {m : Nat} : PF m "LibraryDeskModel" "LibraryDeskModel" "LibraryDesk" 760 0 211 .int 24 := ⟨RX14, TX14, 131, 70, tyX14, by decide, clr_24, in_X14, tyX14_ok, nmX14, by decide, rfl, nd_24, Or.inl ⟨q4563, rfl⟩, rfl, by decide +kernel⟩
theorem hdd_Md_readByte_ : yX14_readByte.cls ≠ "java/lang/invoke/MethodHandle" ∧ yX14_readByte.cls ≠ "java/lang/invoke/VarHandle" ∧ (parseMethodDescriptor yX14_readByte.desc).map (fun d => d.parameters.length) = some 1 := by decide +kernel
theorem mok_Md_readByte : MOK m_Md_readByte := ⟨by decide +kernel, by decide, cd_Md_readByte, pg_Md_readByte⟩
theorem gf_Md_760_24 : GF "LibraryDeskModel" "LibraryDeskModel" "LibraryDesk" 760 0 211 24 := ⟨RX14, TX14, 131, 70, by decide, clr_24, in_X14, by decide, rfl, Or.inl q4563, rfl⟩
theorem srr_72 : ("LibraryDeskModel", 776, "dxocbs%", 72) ∈ srT := List.mem_of_getElem? (i := 72) rfl
theorem pf_Md_781_24 {m : Nat} : PF m "LibraryDeskModel" "LibraryDeskModel" "LibraryDesk" 781 0 213 .int 24 := ⟨RX14, TX14, 131, 72, tyX14, by decide, clr_24, in_X14, tyX14_ok, nmX14, by decide, rfl, nd_24, Or.inl ⟨q4565, rfl⟩, rfl, by decide +kernel⟩
theorem hdd_Md_letter_ : yX14_letter.cls ≠ "java/lang/invoke/MethodHandle" ∧ yX14_letter.cls ≠ "java/lang/invoke/VarHandle" ∧ (parseMethodDescriptor yX14_letter.desc).map (fun d => d.parameters.length) = some 1 := by decide +kernel
theorem mok_Md_letter : MOK m_Md_letter := ⟨by decide +kernel, by decide, cd_Md_letter, pg_Md_letter⟩
theorem hdd_Md_number_2_ : yX14_number_2.cls ≠ "java/lang/invoke/MethodHandle" ∧ yX14_number_2.cls ≠ "java/lang/invoke/VarHandle" ∧ (parseMethodDescriptor yX14_number_2.desc).map (fun d => d.parameters.length) = some 3 := by decide +kernel
theorem mok_Md_number_2 : MOK m_Md_number_2 := ⟨by decide +kernel, by decide, cd_Md_number_2, pg_Md_number_2⟩
theorem srr_73 : ("LibraryDeskModel", 792, "false", 73) ∈ srT := List.mem_of_getElem? (i := 73) rfl
theorem hdd_Md_word_ : yX14_word.cls ≠ "java/lang/invoke/MethodHandle" ∧ yX14_word.cls ≠ "java/lang/invoke/VarHandle" ∧ (parseMethodDescriptor yX14_word.desc).map (fun d => d.parameters.length) = some 1 := by decide +kernel
theorem mok_Md_word : MOK m_Md_word := ⟨by decide +kernel, by decide, cd_Md_word, pg_Md_word⟩
theorem srr_74 : ("LibraryDeskModel", 794, "true", 74) ∈ srT := List.mem_of_getElem? (i := 74) rfl
theorem gf_Md_158_24 : GF "LibraryDeskModel" "LibraryDeskModel" "LibraryDesk" 158 2 216 24 := ⟨RX14, TX14, 131, 75, by decide, clr_24, in_X14, by decide, rfl, Or.inl q4568, rfl⟩
theorem hdd_Md_cut_ : yX14_cut.cls ≠ "java/lang/invoke/MethodHandle" ∧ yX14_cut.cls ≠ "java/lang/invoke/VarHandle" ∧ (parseMethodDescriptor yX14_cut.desc).map (fun d => d.parameters.length) = some 2 := by decide +kernel
theorem mok_Md_cut : MOK m_Md_cut := ⟨by decide +kernel, by decide, cd_Md_cut, pg_Md_cut⟩
theorem hdd_Md_store_ : yX14_store.cls ≠ "java/lang/invoke/MethodHandle" ∧ yX14_store.cls ≠ "java/lang/invoke/VarHandle" ∧ (parseMethodDescriptor yX14_store.desc).map (fun d => d.parameters.length) = some 2 := by decide +kernel
theorem mok_Md_store : MOK m_Md_store := ⟨by decide +kernel, by decide, cd_Md_store, pg_Md_store⟩
theorem gf_Md_155_24 : GF "LibraryDeskModel" "LibraryDeskModel" "LibraryDesk" 155 2 215 24 := ⟨RX14, TX14, 131, 74, by decide, clr_24, in_X14, by decide, rfl, Or.inl q4567, rfl⟩
theorem hdd_Md_load_ : yX14_load.cls ≠ "java/lang/invoke/MethodHandle" ∧ yX14_load.cls ≠ "java/lang/invoke/VarHandle" ∧ (parseMethodDescriptor yX14_load.desc).map (fun d => d.parameters.length) = some 2 := by decide +kernel
theorem mok_Md_load : MOK m_Md_load := ⟨by decide +kernel, by decide, cd_Md_load, pg_Md_load⟩
theorem hdd_Md_add_ : yX14_add.cls ≠ "java/lang/invoke/MethodHandle" ∧ yX14_add.cls ≠ "java/lang/invoke/VarHandle" ∧ (parseMethodDescriptor yX14_add.desc).map (fun d => d.parameters.length) = some 4 := by decide +kernel
theorem mok_Md_add : MOK m_Md_add := ⟨by decide +kernel, by decide, cd_Md_add, pg_Md_add⟩
theorem hdd_Md_times_ : yX14_times.cls ≠ "java/lang/invoke/MethodHandle" ∧ yX14_times.cls ≠ "java/lang/invoke/VarHandle" ∧ (parseMethodDescriptor yX14_times.desc).map (fun d => d.parameters.length) = some 3 := by decide +kernel
theorem mok_Md_times : MOK m_Md_times := ⟨by decide +kernel, by decide, cd_Md_times, pg_Md_times⟩
theorem hdd_Md_divide_ : yX14_divide.cls ≠ "java/lang/invoke/MethodHandle" ∧ yX14_divide.cls ≠ "java/lang/invoke/VarHandle" ∧ (parseMethodDescriptor yX14_divide.desc).map (fun d => d.parameters.length) = some 4 := by decide +kernel
theorem mok_Md_divide : MOK m_Md_divide := ⟨by decide +kernel, by decide, cd_Md_divide, pg_Md_divide⟩
theorem hdd_Md_rest_ : yX14_rest.cls ≠ "java/lang/invoke/MethodHandle" ∧ yX14_rest.cls ≠ "java/lang/invoke/VarHandle" ∧ (parseMethodDescriptor yX14_rest.desc).map (fun d => d.parameters.length) = some 3 := by decide +kernel
theorem mok_Md_rest : MOK m_Md_rest := ⟨by decide +kernel, by decide, cd_Md_rest, pg_Md_rest⟩
theorem hdd_Md_copy_ : yX14_copy.cls ≠ "java/lang/invoke/MethodHandle" ∧ yX14_copy.cls ≠ "java/lang/invoke/VarHandle" ∧ (parseMethodDescriptor yX14_copy.desc).map (fun d => d.parameters.length) = some 2 := by decide +kernel
theorem mok_Md_copy : MOK m_Md_copy := ⟨by decide +kernel, by decide, cd_Md_copy, pg_Md_copy⟩
theorem hdd_Md_power_ : yX14_power.cls ≠ "java/lang/invoke/MethodHandle" ∧ yX14_power.cls ≠ "java/lang/invoke/VarHandle" ∧ (parseMethodDescriptor yX14_power.desc).map (fun d => d.parameters.length) = some 1 := by decide +kernel
theorem mok_Md_power : MOK m_Md_power := ⟨by decide +kernel, by decide, cd_Md_power, pg_Md_power⟩
theorem hdd_Md_powerBy_ : yX14_powerBy.cls ≠ "java/lang/invoke/MethodHandle" ∧ yX14_powerBy.cls ≠ "java/lang/invoke/VarHandle" ∧ (parseMethodDescriptor yX14_powerBy.desc).map (fun d => d.parameters.length) = some 1 := by decide +kernel
theorem mok_Md_powerBy : MOK m_Md_powerBy := ⟨by decide +kernel, by decide, cd_Md_powerBy, pg_Md_powerBy⟩
theorem hdd_Md_rootOf_ : yX14_rootOf.cls ≠ "java/lang/invoke/MethodHandle" ∧ yX14_rootOf.cls ≠ "java/lang/invoke/VarHandle" ∧ (parseMethodDescriptor yX14_rootOf.desc).map (fun d => d.parameters.length) = some 1 := by decide +kernel
theorem mok_Md_rootOf : MOK m_Md_rootOf := ⟨by decide +kernel, by decide, cd_Md_rootOf, pg_Md_rootOf⟩
theorem hdd_Md_bitwise_ : yX14_bitwise.cls ≠ "java/lang/invoke/MethodHandle" ∧ yX14_bitwise.cls ≠ "java/lang/invoke/VarHandle" ∧ (parseMethodDescriptor yX14_bitwise.desc).map (fun d => d.parameters.length) = some 2 := by decide +kernel
theorem mok_Md_bitwise : MOK m_Md_bitwise := ⟨by decide +kernel, by decide, cd_Md_bitwise, pg_Md_bitwise⟩
theorem hdd_Md_asInt_ : yX14_asInt.cls ≠ "java/lang/invoke/MethodHandle" ∧ yX14_asInt.cls ≠ "java/lang/invoke/VarHandle" ∧ (parseMethodDescriptor yX14_asInt.desc).map (fun d => d.parameters.length) = some 1 := by decide +kernel
theorem mok_Md_asInt : MOK m_Md_asInt := ⟨by decide +kernel, by decide, cd_Md_asInt, pg_Md_asInt⟩
theorem hdd_Md_bitsOfSize_ : yX14_bitsOfSize.cls ≠ "java/lang/invoke/MethodHandle" ∧ yX14_bitsOfSize.cls ≠ "java/lang/invoke/VarHandle" ∧ (parseMethodDescriptor yX14_bitsOfSize.desc).map (fun d => d.parameters.length) = some 1 := by decide +kernel
theorem mok_Md_bitsOfSize : MOK m_Md_bitsOfSize := ⟨by decide +kernel, by decide, cd_Md_bitsOfSize, pg_Md_bitsOfSize⟩
theorem hdd_Md_bitAt_ : yX14_bitAt.cls ≠ "java/lang/invoke/MethodHandle" ∧ yX14_bitAt.cls ≠ "java/lang/invoke/VarHandle" ∧ (parseMethodDescriptor yX14_bitAt.desc).map (fun d => d.parameters.length) = some 2 := by decide +kernel
theorem mok_Md_bitAt : MOK m_Md_bitAt := ⟨by decide +kernel, by decide, cd_Md_bitAt, pg_Md_bitAt⟩
theorem hdd_Md_moved_ : yX14_moved.cls ≠ "java/lang/invoke/MethodHandle" ∧ yX14_moved.cls ≠ "java/lang/invoke/VarHandle" ∧ (parseMethodDescriptor yX14_moved.desc).map (fun d => d.parameters.length) = some 3 := by decide +kernel
theorem mok_Md_moved : MOK m_Md_moved := ⟨by decide +kernel, by decide, cd_Md_moved, pg_Md_moved⟩
theorem hdd_Md_small_ : yX14_small.cls ≠ "java/lang/invoke/MethodHandle" ∧ yX14_small.cls ≠ "java/lang/invoke/VarHandle" ∧ (parseMethodDescriptor yX14_small.desc).map (fun d => d.parameters.length) = some 2 := by decide +kernel
theorem mok_Md_small : MOK m_Md_small := ⟨by decide +kernel, by decide, cd_Md_small, pg_Md_small⟩
theorem hdd_Md_addSizes_ : yX14_addSizes.cls ≠ "java/lang/invoke/MethodHandle" ∧ yX14_addSizes.cls ≠ "java/lang/invoke/VarHandle" ∧ (parseMethodDescriptor yX14_addSizes.desc).map (fun d => d.parameters.length) = some 3 := by decide +kernel
theorem mok_Md_addSizes : MOK m_Md_addSizes := ⟨by decide +kernel, by decide, cd_Md_addSizes, pg_Md_addSizes⟩
theorem hdd_Md_sizes_ : yX14_sizes.cls ≠ "java/lang/invoke/MethodHandle" ∧ yX14_sizes.cls ≠ "java/lang/invoke/VarHandle" ∧ (parseMethodDescriptor yX14_sizes.desc).map (fun d => d.parameters.length) = some 2 := by decide +kernel
theorem mok_Md_sizes : MOK m_Md_sizes := ⟨by decide +kernel, by decide, cd_Md_sizes, pg_Md_sizes⟩
theorem hdd_Md_lessSizes_ : yX14_lessSizes.cls ≠ "java/lang/invoke/MethodHandle" ∧ yX14_lessSizes.cls ≠ "java/lang/invoke/VarHandle" ∧ (parseMethodDescriptor yX14_lessSizes.desc).map (fun d => d.parameters.length) = some 3 := by decide +kernel
theorem mok_Md_lessSizes : MOK m_Md_lessSizes := ⟨by decide +kernel, by decide, cd_Md_lessSizes, pg_Md_lessSizes⟩
theorem hdd_Md_digit_ : yX14_digit.cls ≠ "java/lang/invoke/MethodHandle" ∧ yX14_digit.cls ≠ "java/lang/invoke/VarHandle" ∧ (parseMethodDescriptor yX14_digit.desc).map (fun d => d.parameters.length) = some 2 := by decide +kernel
theorem mok_Md_digit : MOK m_Md_digit := ⟨by decide +kernel, by decide, cd_Md_digit, pg_Md_digit⟩
theorem hdd_Md_signed_ : yX14_signed.cls ≠ "java/lang/invoke/MethodHandle" ∧ yX14_signed.cls ≠ "java/lang/invoke/VarHandle" ∧ (parseMethodDescriptor yX14_signed.desc).map (fun d => d.parameters.length) = some 2 := by decide +kernel
theorem mok_Md_signed : MOK m_Md_signed := ⟨by decide +kernel, by decide, cd_Md_signed, pg_Md_signed⟩
theorem hdd_Md_digits_ : yX14_digits.cls ≠ "java/lang/invoke/MethodHandle" ∧ yX14_digits.cls ≠ "java/lang/invoke/VarHandle" ∧ (parseMethodDescriptor yX14_digits.desc).map (fun d => d.parameters.length) = some 2 := by decide +kernel
theorem mok_Md_digits : MOK m_Md_digits := ⟨by decide +kernel, by decide, cd_Md_digits, pg_Md_digits⟩
theorem hdd_Md_isPrime_ : yX14_isPrime.cls ≠ "java/lang/invoke/MethodHandle" ∧ yX14_isPrime.cls ≠ "java/lang/invoke/VarHandle" ∧ (parseMethodDescriptor yX14_isPrime.desc).map (fun d => d.parameters.length) = some 0 := by decide +kernel
theorem mok_Md_isPrime : MOK m_Md_isPrime := ⟨by decide +kernel, by decide, cd_Md_isPrime, pg_Md_isPrime⟩
theorem hdd_Md_take_2_ : yX14_take_2.cls ≠ "java/lang/invoke/MethodHandle" ∧ yX14_take_2.cls ≠ "java/lang/invoke/VarHandle" ∧ (parseMethodDescriptor yX14_take_2.desc).map (fun d => d.parameters.length) = some 2 := by decide +kernel
theorem mok_Md_take_2 : MOK m_Md_take_2 := ⟨by decide +kernel, by decide, cd_Md_take_2, pg_Md_take_2⟩
theorem hdd_Md_align_ : yX14_align.cls ≠ "java/lang/invoke/MethodHandle" ∧ yX14_align.cls ≠ "java/lang/invoke/VarHandle" ∧ (parseMethodDescriptor yX14_align.desc).map (fun d => d.parameters.length) = some 0 := by decide +kernel
theorem mok_Md_align : MOK m_Md_align := ⟨by decide +kernel, by decide, cd_Md_align, pg_Md_align⟩
theorem gf_Md_167_24 : GF "LibraryDeskModel" "LibraryDeskModel" "LibraryDesk" 167 2 219 24 := ⟨RX14, TX14, 131, 78, by decide, clr_24, in_X14, by decide, rfl, Or.inl q4571, rfl⟩
theorem hdd_Md_decSizes_ : yX14_decSizes.cls ≠ "java/lang/invoke/MethodHandle" ∧ yX14_decSizes.cls ≠ "java/lang/invoke/VarHandle" ∧ (parseMethodDescriptor yX14_decSizes.desc).map (fun d => d.parameters.length) = some 2 := by decide +kernel
theorem mok_Md_decSizes : MOK m_Md_decSizes := ⟨by decide +kernel, by decide, cd_Md_decSizes, pg_Md_decSizes⟩
theorem gf_Md_161_24 : GF "LibraryDeskModel" "LibraryDeskModel" "LibraryDesk" 161 2 217 24 := ⟨RX14, TX14, 131, 76, by decide, clr_24, in_X14, by decide, rfl, Or.inl q4569, rfl⟩
theorem gf_Md_164_24 : GF "LibraryDeskModel" "LibraryDeskModel" "LibraryDesk" 164 2 218 24 := ⟨RX14, TX14, 131, 77, by decide, clr_24, in_X14, by decide, rfl, Or.inl q4570, rfl⟩
theorem gf_Md_170_24 : GF "LibraryDeskModel" "LibraryDeskModel" "LibraryDesk" 170 2 220 24 := ⟨RX14, TX14, 131, 79, by decide, clr_24, in_X14, by decide, rfl, Or.inl q4572, rfl⟩
theorem hdd_Md_tens_ : yX14_tens.cls ≠ "java/lang/invoke/MethodHandle" ∧ yX14_tens.cls ≠ "java/lang/invoke/VarHandle" ∧ (parseMethodDescriptor yX14_tens.desc).map (fun d => d.parameters.length) = some 2 := by decide +kernel
theorem mok_Md_tens : MOK m_Md_tens := ⟨by decide +kernel, by decide, cd_Md_tens, pg_Md_tens⟩
theorem hdd_Md_digitOf_ : yX14_digitOf.cls ≠ "java/lang/invoke/MethodHandle" ∧ yX14_digitOf.cls ≠ "java/lang/invoke/VarHandle" ∧ (parseMethodDescriptor yX14_digitOf.desc).map (fun d => d.parameters.length) = some 1 := by decide +kernel
theorem mok_Md_digitOf : MOK m_Md_digitOf := ⟨by decide +kernel, by decide, cd_Md_digitOf, pg_Md_digitOf⟩
theorem hdd_Md_wholeOf_ : yX14_wholeOf.cls ≠ "java/lang/invoke/MethodHandle" ∧ yX14_wholeOf.cls ≠ "java/lang/invoke/VarHandle" ∧ (parseMethodDescriptor yX14_wholeOf.desc).map (fun d => d.parameters.length) = some 3 := by decide +kernel
theorem mok_Md_wholeOf : MOK m_Md_wholeOf := ⟨by decide +kernel, by decide, cd_Md_wholeOf, pg_Md_wholeOf⟩
theorem hdd_Md_decCut_ : yX14_decCut.cls ≠ "java/lang/invoke/MethodHandle" ∧ yX14_decCut.cls ≠ "java/lang/invoke/VarHandle" ∧ (parseMethodDescriptor yX14_decCut.desc).map (fun d => d.parameters.length) = some 2 := by decide +kernel
theorem mok_Md_decCut : MOK m_Md_decCut := ⟨by decide +kernel, by decide, cd_Md_decCut, pg_Md_decCut⟩
theorem hdd_Md_keep_ : yX14_keep.cls ≠ "java/lang/invoke/MethodHandle" ∧ yX14_keep.cls ≠ "java/lang/invoke/VarHandle" ∧ (parseMethodDescriptor yX14_keep.desc).map (fun d => d.parameters.length) = some 2 := by decide +kernel
theorem mok_Md_keep : MOK m_Md_keep := ⟨by decide +kernel, by decide, cd_Md_keep, pg_Md_keep⟩
theorem hdd_Md_sum_ : yX14_sum.cls ≠ "java/lang/invoke/MethodHandle" ∧ yX14_sum.cls ≠ "java/lang/invoke/VarHandle" ∧ (parseMethodDescriptor yX14_sum.desc).map (fun d => d.parameters.length) = some 1 := by decide +kernel
theorem mok_Md_sum : MOK m_Md_sum := ⟨by decide +kernel, by decide, cd_Md_sum, pg_Md_sum⟩
theorem hdd_Md_product_ : yX14_product.cls ≠ "java/lang/invoke/MethodHandle" ∧ yX14_product.cls ≠ "java/lang/invoke/VarHandle" ∧ (parseMethodDescriptor yX14_product.desc).map (fun d => d.parameters.length) = some 0 := by decide +kernel
theorem mok_Md_product : MOK m_Md_product := ⟨by decide +kernel, by decide, cd_Md_product, pg_Md_product⟩
theorem hdd_Md_rounded_ : yX14_rounded.cls ≠ "java/lang/invoke/MethodHandle" ∧ yX14_rounded.cls ≠ "java/lang/invoke/VarHandle" ∧ (parseMethodDescriptor yX14_rounded.desc).map (fun d => d.parameters.length) = some 2 := by decide +kernel
theorem mok_Md_rounded : MOK m_Md_rounded := ⟨by decide +kernel, by decide, cd_Md_rounded, pg_Md_rounded⟩
theorem hdd_Md_scaled_ : yX14_scaled.cls ≠ "java/lang/invoke/MethodHandle" ∧ yX14_scaled.cls ≠ "java/lang/invoke/VarHandle" ∧ (parseMethodDescriptor yX14_scaled.desc).map (fun d => d.parameters.length) = some 2 := by decide +kernel
theorem mok_Md_scaled : MOK m_Md_scaled := ⟨by decide +kernel, by decide, cd_Md_scaled, pg_Md_scaled⟩
theorem hdd_Md_quotient_ : yX14_quotient.cls ≠ "java/lang/invoke/MethodHandle" ∧ yX14_quotient.cls ≠ "java/lang/invoke/VarHandle" ∧ (parseMethodDescriptor yX14_quotient.desc).map (fun d => d.parameters.length) = some 0 := by decide +kernel
theorem mok_Md_quotient : MOK m_Md_quotient := ⟨by decide +kernel, by decide, cd_Md_quotient, pg_Md_quotient⟩
theorem hdd_Md_digitAt_ : yX14_digitAt.cls ≠ "java/lang/invoke/MethodHandle" ∧ yX14_digitAt.cls ≠ "java/lang/invoke/VarHandle" ∧ (parseMethodDescriptor yX14_digitAt.desc).map (fun d => d.parameters.length) = some 2 := by decide +kernel
theorem mok_Md_digitAt : MOK m_Md_digitAt := ⟨by decide +kernel, by decide, cd_Md_digitAt, pg_Md_digitAt⟩
theorem hdd_Math_floorDiv_ : yJ12_floorDiv.cls ≠ "java/lang/invoke/MethodHandle" ∧ yJ12_floorDiv.cls ≠ "java/lang/invoke/VarHandle" ∧ (parseMethodDescriptor yJ12_floorDiv.desc).map (fun d => d.parameters.length) = some 2 := by decide +kernel
theorem mok_Math_floorDiv : MOK m_Math_floorDiv := ⟨by decide +kernel, by decide, cd_Math_floorDiv, pg_Math_floorDiv⟩
theorem hdd_Md_one_ : yX14_one.cls ≠ "java/lang/invoke/MethodHandle" ∧ yX14_one.cls ≠ "java/lang/invoke/VarHandle" ∧ (parseMethodDescriptor yX14_one.desc).map (fun d => d.parameters.length) = some 2 := by decide +kernel
theorem mok_Md_one : MOK m_Md_one := ⟨by decide +kernel, by decide, cd_Md_one, pg_Md_one⟩
theorem ncr_596 : ("java/lang/ArithmeticException", "LibraryDeskModel$Refused") ∈ ncT := List.mem_of_getElem? (i := 596) rfl
theorem xr_LibraryDeskModel_Refused_67 : (inC [50] 67 = true → Cond.castable (exN 67) "LibraryDeskModel$Refused" ∈ nwT) ∧ (¬ inC [50] 67 = true → (exN 67, "LibraryDeskModel$Refused") ∈ ncT) := ⟨fun h => absurd h (by decide), fun _ => ncr_596⟩
theorem ncr_593 : ("java/lang/UnsupportedOperationException", "LibraryDeskModel$Refused") ∈ ncT := List.mem_of_getElem? (i := 593) rfl
theorem xr_LibraryDeskModel_Refused_66 : (inC [50] 66 = true → Cond.castable (exN 66) "LibraryDeskModel$Refused" ∈ nwT) ∧ (¬ inC [50] 66 = true → (exN 66, "LibraryDeskModel$Refused") ∈ ncT) := ⟨fun h => absurd h (by decide), fun _ => ncr_593⟩
theorem ncr_592 : ("java/lang/ClassCastException", "LibraryDeskModel$Refused") ∈ ncT := List.mem_of_getElem? (i := 592) rfl
theorem xr_LibraryDeskModel_Refused_65 : (inC [50] 65 = true → Cond.castable (exN 65) "LibraryDeskModel$Refused" ∈ nwT) ∧ (¬ inC [50] 65 = true → (exN 65, "LibraryDeskModel$Refused") ∈ ncT) := ⟨fun h => absurd h (by decide), fun _ => ncr_592⟩
theorem ncr_591 : ("java/util/NoSuchElementException", "LibraryDeskModel$Refused") ∈ ncT := List.mem_of_getElem? (i := 591) rfl
theorem xr_LibraryDeskModel_Refused_64 : (inC [50] 64 = true → Cond.castable (exN 64) "LibraryDeskModel$Refused" ∈ nwT) ∧ (¬ inC [50] 64 = true → (exN 64, "LibraryDeskModel$Refused") ∈ ncT) := ⟨fun h => absurd h (by decide), fun _ => ncr_591⟩
theorem ncr_572 : ("java/lang/IllegalStateException", "LibraryDeskModel$Refused") ∈ ncT := List.mem_of_getElem? (i := 572) rfl
theorem xr_LibraryDeskModel_Refused_63 : (inC [50] 63 = true → Cond.castable (exN 63) "LibraryDeskModel$Refused" ∈ nwT) ∧ (¬ inC [50] 63 = true → (exN 63, "LibraryDeskModel$Refused") ∈ ncT) := ⟨fun h => absurd h (by decide), fun _ => ncr_572⟩
theorem ncr_571 : ("java/lang/NegativeArraySizeException", "LibraryDeskModel$Refused") ∈ ncT := List.mem_of_getElem? (i := 571) rfl
theorem xr_LibraryDeskModel_Refused_62 : (inC [50] 62 = true → Cond.castable (exN 62) "LibraryDeskModel$Refused" ∈ nwT) ∧ (¬ inC [50] 62 = true → (exN 62, "LibraryDeskModel$Refused") ∈ ncT) := ⟨fun h => absurd h (by decide), fun _ => ncr_571⟩
theorem ncr_570 : ("java/lang/IllegalArgumentException", "LibraryDeskModel$Refused") ∈ ncT := List.mem_of_getElem? (i := 570) rfl
theorem xr_LibraryDeskModel_Refused_61 : (inC [50] 61 = true → Cond.castable (exN 61) "LibraryDeskModel$Refused" ∈ nwT) ∧ (¬ inC [50] 61 = true → (exN 61, "LibraryDeskModel$Refused") ∈ ncT) := ⟨fun h => absurd h (by decide), fun _ => ncr_570⟩
theorem ncr_569 : ("java/lang/IndexOutOfBoundsException", "LibraryDeskModel$Refused") ∈ ncT := List.mem_of_getElem? (i := 569) rfl
theorem xr_LibraryDeskModel_Refused_60 : (inC [50] 60 = true → Cond.castable (exN 60) "LibraryDeskModel$Refused" ∈ nwT) ∧ (¬ inC [50] 60 = true → (exN 60, "LibraryDeskModel$Refused") ∈ ncT) := ⟨fun h => absurd h (by decide), fun _ => ncr_569⟩
theorem xr_LibraryDeskModel_Refused_50 : (inC [50] 50 = true → Cond.castable (exN 50) "LibraryDeskModel$Refused" ∈ nwT) ∧ (¬ inC [50] 50 = true → (exN 50, "LibraryDeskModel$Refused") ∈ ncT) := ⟨fun _ => nw5829, fun h => absurd (by decide) h⟩
theorem ncr_595 : ("LibraryDeskModel$Broken", "LibraryDeskModel$Refused") ∈ ncT := List.mem_of_getElem? (i := 595) rfl
theorem xr_LibraryDeskModel_Refused_49 : (inC [50] 49 = true → Cond.castable (exN 49) "LibraryDeskModel$Refused" ∈ nwT) ∧ (¬ inC [50] 49 = true → (exN 49, "LibraryDeskModel$Refused") ∈ ncT) := ⟨fun h => absurd h (by decide), fun _ => ncr_595⟩
theorem ncr_594 : ("LibraryDesk$Broken", "LibraryDeskModel$Refused") ∈ ncT := List.mem_of_getElem? (i := 594) rfl
theorem xr_LibraryDeskModel_Refused_48 : (inC [50] 48 = true → Cond.castable (exN 48) "LibraryDeskModel$Refused" ∈ nwT) ∧ (¬ inC [50] 48 = true → (exN 48, "LibraryDeskModel$Refused") ∈ ncT) := ⟨fun h => absurd h (by decide), fun _ => ncr_594⟩
theorem pf_Md_949_24 {m : Nat} : PF m "LibraryDeskModel" "LibraryDeskModel" "LibraryDesk" 949 0 223 .int 24 := ⟨RX14, TX14, 131, 82, tyX14, by decide, clr_24, in_X14, tyX14_ok, nmX14, by decide, rfl, nd_24, Or.inl ⟨q4574, rfl⟩, rfl, by decide +kernel⟩
theorem hdd_Md_readSource_ : yX14_readSource.cls ≠ "java/lang/invoke/MethodHandle" ∧ yX14_readSource.cls ≠ "java/lang/invoke/VarHandle" ∧ (parseMethodDescriptor yX14_readSource.desc).map (fun d => d.parameters.length) = some 0 := by decide +kernel
theorem mok_Md_readSource : MOK m_Md_readSource := ⟨by decide +kernel, by decide, cd_Md_readSource, pg_Md_readSource⟩
theorem hdd_Md_token_ : yX14_token.cls ≠ "java/lang/invoke/MethodHandle" ∧ yX14_token.cls ≠ "java/lang/invoke/VarHandle" ∧ (parseMethodDescriptor yX14_token.desc).map (fun d => d.parameters.length) = some 0 := by decide +kernel
theorem mok_Md_token : MOK m_Md_token := ⟨by decide +kernel, by decide, cd_Md_token, pg_Md_token⟩
theorem srr_113 : ("LibraryDeskModel", 1123, "|", 113) ∈ srT := List.mem_of_getElem? (i := 113) rfl
theorem pf_Md_1051_24 {m : Nat} : PF m "LibraryDeskModel" "LibraryDeskModel" "LibraryDesk" 1051 0 232 .int 24 := ⟨RX14, TX14, 131, 91, tyX14, by decide, clr_24, in_X14, tyX14_ok, nmX14, by decide, rfl, nd_24, Or.inl ⟨q4583, rfl⟩, rfl, by decide +kernel⟩
theorem hdd_Md_readStage_ : yX14_readStage.cls ≠ "java/lang/invoke/MethodHandle" ∧ yX14_readStage.cls ≠ "java/lang/invoke/VarHandle" ∧ (parseMethodDescriptor yX14_readStage.desc).map (fun d => d.parameters.length) = some 0 := by decide +kernel
theorem mok_Md_readStage : MOK m_Md_readStage := ⟨by decide +kernel, by decide, cd_Md_readStage, pg_Md_readStage⟩
theorem hdd_Md_needToken_ : yX14_needToken.cls ≠ "java/lang/invoke/MethodHandle" ∧ yX14_needToken.cls ≠ "java/lang/invoke/VarHandle" ∧ (parseMethodDescriptor yX14_needToken.desc).map (fun d => d.parameters.length) = some 1 := by decide +kernel
theorem mok_Md_needToken : MOK m_Md_needToken := ⟨by decide +kernel, by decide, cd_Md_needToken, pg_Md_needToken⟩
theorem hdd_Md_readEnd_ : yX14_readEnd.cls ≠ "java/lang/invoke/MethodHandle" ∧ yX14_readEnd.cls ≠ "java/lang/invoke/VarHandle" ∧ (parseMethodDescriptor yX14_readEnd.desc).map (fun d => d.parameters.length) = some 0 := by decide +kernel
theorem mok_Md_readEnd : MOK m_Md_readEnd := ⟨by decide +kernel, by decide, cd_Md_readEnd, pg_Md_readEnd⟩
theorem gf_Md_1006_24 : GF "LibraryDeskModel" "LibraryDeskModel" "LibraryDesk" 1006 0 233 24 := ⟨RX14, TX14, 131, 92, by decide, clr_24, in_X14, by decide, rfl, Or.inl q4584, rfl⟩
theorem gf_Md_1009_24 : GF "LibraryDeskModel" "LibraryDeskModel" "LibraryDesk" 1009 0 234 24 := ⟨RX14, TX14, 131, 93, by decide, clr_24, in_X14, by decide, rfl, Or.inl q4585, rfl⟩
theorem gf_Md_1074_24 : GF "LibraryDeskModel" "LibraryDeskModel" "LibraryDesk" 1074 0 245 24 := ⟨RX14, TX14, 131, 104, by decide, clr_24, in_X14, by decide, rfl, Or.inl q4596, rfl⟩
theorem pf_Md_1111_24 {m : Nat} : PF m "LibraryDeskModel" "LibraryDeskModel" "LibraryDesk" 1111 0 238 .int 24 := ⟨RX14, TX14, 131, 97, tyX14, by decide, clr_24, in_X14, tyX14_ok, nmX14, by decide, rfl, nd_24, Or.inl ⟨q4589, rfl⟩, rfl, by decide +kernel⟩
theorem pf_Md_1117_24 {m : Nat} : PF m "LibraryDeskModel" "LibraryDeskModel" "LibraryDesk" 1117 0 244 .boolean 24 := ⟨RX14, TX14, 131, 103, tyX14, by decide, clr_24, in_X14, tyX14_ok, nmX14, by decide, rfl, nd_24, Or.inl ⟨q4595, rfl⟩, rfl, by decide +kernel⟩
theorem pf_Md_1082_24 {m : Nat} : PF m "LibraryDeskModel" "LibraryDeskModel" "LibraryDesk" 1082 0 247 .int 24 := ⟨RX14, TX14, 131, 106, tyX14, by decide, clr_24, in_X14, tyX14_ok, nmX14, by decide, rfl, nd_24, Or.inl ⟨q4598, rfl⟩, rfl, by decide +kernel⟩
theorem pf_Md_1114_24 {m : Nat} : PF m "LibraryDeskModel" "LibraryDeskModel" "LibraryDesk" 1114 0 239 .int 24 := ⟨RX14, TX14, 131, 98, tyX14, by decide, clr_24, in_X14, tyX14_ok, nmX14, by decide, rfl, nd_24, Or.inl ⟨q4590, rfl⟩, rfl, by decide +kernel⟩
theorem hdd_Md_ended_ : yX14_ended.cls ≠ "java/lang/invoke/MethodHandle" ∧ yX14_ended.cls ≠ "java/lang/invoke/VarHandle" ∧ (parseMethodDescriptor yX14_ended.desc).map (fun d => d.parameters.length) = some 0 := by decide +kernel
theorem mok_Md_ended : MOK m_Md_ended := ⟨by decide +kernel, by decide, cd_Md_ended, pg_Md_ended⟩
theorem pf_Md_998_24 {m : Nat} : PF m "LibraryDeskModel" "LibraryDeskModel" "LibraryDesk" 998 0 240 .int 24 := ⟨RX14, TX14, 131, 99, tyX14, by decide, clr_24, in_X14, tyX14_ok, nmX14, by decide, rfl, nd_24, Or.inl ⟨q4591, rfl⟩, rfl, by decide +kernel⟩
theorem inB_50 : ∀ w ∈ u_ws RX40 TB50 1, w ∈ lw_all := List.forall_mem_cons.mpr ⟨q5842, fun _ h => absurd h List.not_mem_nil⟩
theorem clr_50 : clT[clI 50]? = some (RX40, TB50, 1) := rfl
theorem gf_Md_1138_50 : GF "LibraryDeskModel" "LibraryDeskModel$Refused" "LibraryDesk" 1138 0 367 50 := ⟨RX40, TB50, 1, 0, by decide, clr_50, inB_50, by decide, rfl, Or.inl q5841, rfl⟩
theorem pf_Md_1140_24 {m : Nat} : PF m "LibraryDeskModel" "LibraryDeskModel" "LibraryDesk" 1140 0 241 .int 24 := ⟨RX14, TX14, 131, 100, tyX14, by decide, clr_24, in_X14, tyX14_ok, nmX14, by decide, rfl, nd_24, Or.inl ⟨q4592, rfl⟩, rfl, by decide +kernel⟩
theorem gf_Md_998_24 : GF "LibraryDeskModel" "LibraryDeskModel" "LibraryDesk" 998 0 240 24 := ⟨RX14, TX14, 131, 99, by decide, clr_24, in_X14, by decide, rfl, Or.inl q4591, rfl⟩
theorem pf_Md_952_24 {m : Nat} : PF m "LibraryDeskModel" "LibraryDeskModel" "LibraryDesk" 952 0 222 .int 24 := ⟨RX14, TX14, 131, 81, tyX14, by decide, clr_24, in_X14, tyX14_ok, nmX14, by decide, rfl, nd_24, Or.inl ⟨q4573, rfl⟩, rfl, by decide +kernel⟩
theorem gf_Md_949_24 : GF "LibraryDeskModel" "LibraryDeskModel" "LibraryDesk" 949 0 223 24 := ⟨RX14, TX14, 131, 82, by decide, clr_24, in_X14, by decide, rfl, Or.inl q4574, rfl⟩
theorem gf_Md_952_24 : GF "LibraryDeskModel" "LibraryDeskModel" "LibraryDesk" 952 0 222 24 := ⟨RX14, TX14, 131, 81, by decide, clr_24, in_X14, by decide, rfl, Or.inl q4573, rfl⟩
theorem hdd_Md_isToken_ : yX14_isToken.cls ≠ "java/lang/invoke/MethodHandle" ∧ yX14_isToken.cls ≠ "java/lang/invoke/VarHandle" ∧ (parseMethodDescriptor yX14_isToken.desc).map (fun d => d.parameters.length) = some 1 := by decide +kernel
theorem mok_Md_isToken : MOK m_Md_isToken := ⟨by decide +kernel, by decide, cd_Md_isToken, pg_Md_isToken⟩
theorem srr_88 : ("LibraryDeskModel", 1004, "range", 88) ∈ srT := List.mem_of_getElem? (i := 88) rfl
theorem pf_Md_1006_24 {m : Nat} : PF m "LibraryDeskModel" "LibraryDeskModel" "LibraryDesk" 1006 0 233 .int 24 := ⟨RX14, TX14, 131, 92, tyX14, by decide, clr_24, in_X14, tyX14_ok, nmX14, by decide, rfl, nd_24, Or.inl ⟨q4584, rfl⟩, rfl, by decide +kernel⟩
theorem pf_Md_1009_24 {m : Nat} : PF m "LibraryDeskModel" "LibraryDeskModel" "LibraryDesk" 1009 0 234 .int 24 := ⟨RX14, TX14, 131, 93, tyX14, by decide, clr_24, in_X14, tyX14_ok, nmX14, by decide, rfl, nd_24, Or.inl ⟨q4585, rfl⟩, rfl, by decide +kernel⟩
theorem hdd_Md_needNumber_ : yX14_needNumber.cls ≠ "java/lang/invoke/MethodHandle" ∧ yX14_needNumber.cls ≠ "java/lang/invoke/VarHandle" ∧ (parseMethodDescriptor yX14_needNumber.desc).map (fun d => d.parameters.length) = some 2 := by decide +kernel
theorem mok_Md_needNumber : MOK m_Md_needNumber := ⟨by decide +kernel, by decide, cd_Md_needNumber, pg_Md_needNumber⟩
theorem pf_Md_1012_24 {m : Nat} : PF m "LibraryDeskModel" "LibraryDeskModel" "LibraryDesk" 1012 0 235 .int 24 := ⟨RX14, TX14, 131, 94, tyX14, by decide, clr_24, in_X14, tyX14_ok, nmX14, by decide, rfl, nd_24, Or.inl ⟨q4586, rfl⟩, rfl, by decide +kernel⟩
theorem srr_89 : ("LibraryDeskModel", 1015, "list", 89) ∈ srT := List.mem_of_getElem? (i := 89) rfl
theorem srr_90 : ("LibraryDeskModel", 1017, "keys", 90) ∈ srT := List.mem_of_getElem? (i := 90) rfl
theorem srr_91 : ("LibraryDeskModel", 1018, "values", 91) ∈ srT := List.mem_of_getElem? (i := 91) rfl
theorem srr_92 : ("LibraryDeskModel", 1020, "iterate", 92) ∈ srT := List.mem_of_getElem? (i := 92) rfl
theorem hdd_Md_readF_ : yX14_readF.cls ≠ "java/lang/invoke/MethodHandle" ∧ yX14_readF.cls ≠ "java/lang/invoke/VarHandle" ∧ (parseMethodDescriptor yX14_readF.desc).map (fun d => d.parameters.length) = some 0 := by decide +kernel
theorem mok_Md_readF : MOK m_Md_readF := ⟨by decide +kernel, by decide, cd_Md_readF, pg_Md_readF⟩
theorem pf_Md_1025_24 {m : Nat} : PF m "LibraryDeskModel" "LibraryDeskModel" "LibraryDesk" 1025 0 236 .int 24 := ⟨RX14, TX14, 131, 95, tyX14, by decide, clr_24, in_X14, tyX14_ok, nmX14, by decide, rfl, nd_24, Or.inl ⟨q4587, rfl⟩, rfl, by decide +kernel⟩
theorem gf_Md_966_24 : GF "LibraryDeskModel" "LibraryDeskModel" "LibraryDesk" 966 0 242 24 := ⟨RX14, TX14, 131, 101, by decide, clr_24, in_X14, by decide, rfl, Or.inl q4593, rfl⟩
theorem pf_Md_1028_24 {m : Nat} : PF m "LibraryDeskModel" "LibraryDeskModel" "LibraryDesk" 1028 0 237 .int 24 := ⟨RX14, TX14, 131, 96, tyX14, by decide, clr_24, in_X14, tyX14_ok, nmX14, by decide, rfl, nd_24, Or.inl ⟨q4588, rfl⟩, rfl, by decide +kernel⟩
theorem gf_Md_969_24 : GF "LibraryDeskModel" "LibraryDeskModel" "LibraryDesk" 969 0 243 24 := ⟨RX14, TX14, 131, 102, by decide, clr_24, in_X14, by decide, rfl, Or.inl q4594, rfl⟩
theorem srr_81 : ("LibraryDeskModel", 985, "neg", 81) ∈ srT := List.mem_of_getElem? (i := 81) rfl
theorem srr_82 : ("LibraryDeskModel", 987, "abs", 82) ∈ srT := List.mem_of_getElem? (i := 82) rfl
theorem pf_Md_966_24 {m : Nat} : PF m "LibraryDeskModel" "LibraryDeskModel" "LibraryDesk" 966 0 242 .int 24 := ⟨RX14, TX14, 131, 101, tyX14, by decide, clr_24, in_X14, tyX14_ok, nmX14, by decide, rfl, nd_24, Or.inl ⟨q4593, rfl⟩, rfl, by decide +kernel⟩
theorem pf_Md_969_24 {m : Nat} : PF m "LibraryDeskModel" "LibraryDeskModel" "LibraryDesk" 969 0 243 .int 24 := ⟨RX14, TX14, 131, 102, tyX14, by decide, clr_24, in_X14, tyX14_ok, nmX14, by decide, rfl, nd_24, Or.inl ⟨q4594, rfl⟩, rfl, by decide +kernel⟩
theorem srr_83 : ("LibraryDeskModel", 988, "+", 83) ∈ srT := List.mem_of_getElem? (i := 83) rfl
theorem srr_84 : ("LibraryDeskModel", 990, "-", 84) ∈ srT := List.mem_of_getElem? (i := 84) rfl
theorem srr_85 : ("LibraryDeskModel", 992, "*", 85) ∈ srT := List.mem_of_getElem? (i := 85) rfl
theorem srr_86 : ("LibraryDeskModel", 994, "/", 86) ∈ srT := List.mem_of_getElem? (i := 86) rfl
theorem srr_87 : ("LibraryDeskModel", 996, "%", 87) ∈ srT := List.mem_of_getElem? (i := 87) rfl
theorem hdd_Md_stageKind_ : yX14_stageKind.cls ≠ "java/lang/invoke/MethodHandle" ∧ yX14_stageKind.cls ≠ "java/lang/invoke/VarHandle" ∧ (parseMethodDescriptor yX14_stageKind.desc).map (fun d => d.parameters.length) = some 0 := by decide +kernel
theorem mok_Md_stageKind : MOK m_Md_stageKind := ⟨by decide +kernel, by decide, cd_Md_stageKind, pg_Md_stageKind⟩
theorem gf_Md_1051_24 : GF "LibraryDeskModel" "LibraryDeskModel" "LibraryDesk" 1051 0 232 24 := ⟨RX14, TX14, 131, 91, by decide, clr_24, in_X14, by decide, rfl, Or.inl q4583, rfl⟩
theorem gf_Md_173_24 : GF "LibraryDeskModel" "LibraryDeskModel" "LibraryDesk" 173 2 224 24 := ⟨RX14, TX14, 131, 83, by decide, clr_24, in_X14, by decide, rfl, Or.inl q4575, rfl⟩
theorem hdd_Md_readP_ : yX14_readP.cls ≠ "java/lang/invoke/MethodHandle" ∧ yX14_readP.cls ≠ "java/lang/invoke/VarHandle" ∧ (parseMethodDescriptor yX14_readP.desc).map (fun d => d.parameters.length) = some 0 := by decide +kernel
theorem mok_Md_readP : MOK m_Md_readP := ⟨by decide +kernel, by decide, cd_Md_readP, pg_Md_readP⟩
theorem gf_Md_176_24 : GF "LibraryDeskModel" "LibraryDeskModel" "LibraryDesk" 176 2 225 24 := ⟨RX14, TX14, 131, 84, by decide, clr_24, in_X14, by decide, rfl, Or.inl q4576, rfl⟩
theorem gf_Md_179_24 : GF "LibraryDeskModel" "LibraryDeskModel" "LibraryDesk" 179 2 226 24 := ⟨RX14, TX14, 131, 85, by decide, clr_24, in_X14, by decide, rfl, Or.inl q4577, rfl⟩
theorem gf_Md_182_24 : GF "LibraryDeskModel" "LibraryDeskModel" "LibraryDesk" 182 2 227 24 := ⟨RX14, TX14, 131, 86, by decide, clr_24, in_X14, by decide, rfl, Or.inl q4578, rfl⟩
theorem gf_Md_191_24 : GF "LibraryDeskModel" "LibraryDeskModel" "LibraryDesk" 191 2 230 24 := ⟨RX14, TX14, 131, 89, by decide, clr_24, in_X14, by decide, rfl, Or.inl q4581, rfl⟩
theorem gf_Md_188_24 : GF "LibraryDeskModel" "LibraryDeskModel" "LibraryDesk" 188 2 229 24 := ⟨RX14, TX14, 131, 88, by decide, clr_24, in_X14, by decide, rfl, Or.inl q4580, rfl⟩
theorem gf_Md_185_24 : GF "LibraryDeskModel" "LibraryDeskModel" "LibraryDesk" 185 2 228 24 := ⟨RX14, TX14, 131, 87, by decide, clr_24, in_X14, by decide, rfl, Or.inl q4579, rfl⟩
theorem srr_93 : ("LibraryDeskModel", 1031, "filte\x72", 93) ∈ srT := List.mem_of_getElem? (i := 93) rfl
theorem srr_94 : ("LibraryDeskModel", 1033, "map", 94) ∈ srT := List.mem_of_getElem? (i := 94) rfl
theorem srr_95 : ("LibraryDeskModel", 1035, "copies", 95) ∈ srT := List.mem_of_getElem? (i := 95) rfl
theorem srr_96 : ("LibraryDeskModel", 1037, "distinct", 96) ∈ srT := List.mem_of_getElem? (i := 96) rfl
theorem srr_97 : ("LibraryDeskModel", 1039, "sorted", 97) ∈ srT := List.mem_of_getElem? (i := 97) rfl
theorem srr_98 : ("LibraryDeskModel", 1041, "limit", 98) ∈ srT := List.mem_of_getElem? (i := 98) rfl
theorem srr_99 : ("LibraryDeskModel", 1043, "skip", 99) ∈ srT := List.mem_of_getElem? (i := 99) rfl
theorem srr_100 : ("LibraryDeskModel", 1045, "while", 100) ∈ srT := List.mem_of_getElem? (i := 100) rfl
theorem srr_101 : ("LibraryDeskModel", 1047, "until", 101) ∈ srT := List.mem_of_getElem? (i := 101) rfl
theorem srr_75 : ("LibraryDeskModel", 962, "even", 75) ∈ srT := List.mem_of_getElem? (i := 75) rfl
theorem srr_76 : ("LibraryDeskModel", 964, "odd", 76) ∈ srT := List.mem_of_getElem? (i := 76) rfl
theorem srr_77 : ("LibraryDeskModel", 972, ">", 77) ∈ srT := List.mem_of_getElem? (i := 77) rfl
theorem srr_78 : ("LibraryDeskModel", 974, "<", 78) ∈ srT := List.mem_of_getElem? (i := 78) rfl
theorem srr_79 : ("LibraryDeskModel", 976, "=", 79) ∈ srT := List.mem_of_getElem? (i := 79) rfl
theorem srr_80 : ("LibraryDeskModel", 978, "div", 80) ∈ srT := List.mem_of_getElem? (i := 80) rfl
theorem srr_102 : ("LibraryDeskModel", 1057, "count", 102) ∈ srT := List.mem_of_getElem? (i := 102) rfl
theorem srr_103 : ("LibraryDeskModel", 1059, "sum", 103) ∈ srT := List.mem_of_getElem? (i := 103) rfl
theorem srr_104 : ("LibraryDeskModel", 1060, "least", 104) ∈ srT := List.mem_of_getElem? (i := 104) rfl
theorem srr_105 : ("LibraryDeskModel", 1062, "greatest", 105) ∈ srT := List.mem_of_getElem? (i := 105) rfl
theorem srr_106 : ("LibraryDeskModel", 1064, "first", 106) ∈ srT := List.mem_of_getElem? (i := 106) rfl
theorem srr_107 : ("LibraryDeskModel", 1065, "any", 107) ∈ srT := List.mem_of_getElem? (i := 107) rfl
theorem srr_108 : ("LibraryDeskModel", 1067, "all", 108) ∈ srT := List.mem_of_getElem? (i := 108) rfl
theorem srr_109 : ("LibraryDeskModel", 1068, "none", 109) ∈ srT := List.mem_of_getElem? (i := 109) rfl
theorem srr_110 : ("LibraryDeskModel", 1070, "fold", 110) ∈ srT := List.mem_of_getElem? (i := 110) rfl
theorem srr_111 : ("LibraryDeskModel", 1072, "group", 111) ∈ srT := List.mem_of_getElem? (i := 111) rfl
theorem pf_Md_1074_24 {m : Nat} : PF m "LibraryDeskModel" "LibraryDeskModel" "LibraryDesk" 1074 0 245 .int 24 := ⟨RX14, TX14, 131, 104, tyX14, by decide, clr_24, in_X14, tyX14_ok, nmX14, by decide, rfl, nd_24, Or.inl ⟨q4596, rfl⟩, rfl, by decide +kernel⟩
theorem srr_112 : ("LibraryDeskModel", 1077, "^", 112) ∈ srT := List.mem_of_getElem? (i := 112) rfl
theorem gf_Md_1092_24 : GF "LibraryDeskModel" "LibraryDeskModel" "LibraryDesk" 1092 0 246 24 := ⟨RX14, TX14, 131, 105, by decide, clr_24, in_X14, by decide, rfl, Or.inl q4597, rfl⟩
theorem hdd_Md_next_ : yX14_next.cls ≠ "java/lang/invoke/MethodHandle" ∧ yX14_next.cls ≠ "java/lang/invoke/VarHandle" ∧ (parseMethodDescriptor yX14_next.desc).map (fun d => d.parameters.length) = some 1 := by decide +kernel
theorem mok_Md_next : MOK m_Md_next := ⟨by decide +kernel, by decide, cd_Md_next, pg_Md_next⟩
theorem hdd_Math_max_2_ : yJ12_max_2.cls ≠ "java/lang/invoke/MethodHandle" ∧ yJ12_max_2.cls ≠ "java/lang/invoke/VarHandle" ∧ (parseMethodDescriptor yJ12_max_2.desc).map (fun d => d.parameters.length) = some 2 := by decide +kernel
theorem mok_Math_max_2 : MOK m_Math_max_2 := ⟨by decide +kernel, by decide, cd_Math_max_2, pg_Math_max_2⟩
theorem hdd_Md_asks_ : yX14_asks.cls ≠ "java/lang/invoke/MethodHandle" ∧ yX14_asks.cls ≠ "java/lang/invoke/VarHandle" ∧ (parseMethodDescriptor yX14_asks.desc).map (fun d => d.parameters.length) = some 3 := by decide +kernel
theorem mok_Md_asks : MOK m_Md_asks := ⟨by decide +kernel, by decide, cd_Md_asks, pg_Md_asks⟩
theorem bkf_Md_1001_1003 : BKF "LibraryDeskModel" RX40 "LibraryDesk" TB50 cX40_init 50 367 1001 1003 := ⟨by decide, rfl, rfl, q5730, q5828, q568, q5837, q5838, Or.inl q5836, by decide, by decide⟩
theorem supA_50 : ∀ w ∈ supA RX40 1 RX40 "java/lang/RuntimeException" ["java/lang/Exception"], wOK w := List.forall_mem_append.mpr ⟨List.forall_mem_append.mpr ⟨thr_A, List.forall_mem_cons.mpr ⟨fun _ => Or.inl q1261, List.forall_mem_cons.mpr ⟨fun _ => Or.inl q1262, List.forall_mem_cons.mpr ⟨fun _ => Or.inl q1263, List.forall_mem_cons.mpr ⟨fun _ => Or.inl q1264, List.forall_mem_cons.mpr ⟨fun _ => Or.inr ⟨nw1222, rfl⟩, List.forall_mem_cons.mpr ⟨fun _ => Or.inl q1264, List.forall_mem_cons.mpr ⟨fun _ => Or.inl q1265, List.forall_mem_cons.mpr ⟨fun _ => Or.inl q1266, List.forall_mem_cons.mpr ⟨fun _ => Or.inl q1234, List.forall_mem_cons.mpr ⟨fun _ => Or.inr ⟨nw1224, rfl⟩, fun _ h => absurd h List.not_mem_nil⟩⟩⟩⟩⟩⟩⟩⟩⟩⟩⟩, List.forall_mem_cons.mpr ⟨fun _ => Or.inl q5839, List.forall_mem_cons.mpr ⟨fun _ => Or.inl q5828, List.forall_mem_cons.mpr ⟨fun _ => Or.inl q5830, List.forall_mem_cons.mpr ⟨fun _ => Or.inl q1183, List.forall_mem_cons.mpr ⟨fun _ => Or.inl q5831, List.forall_mem_cons.mpr ⟨fun _ => Or.inl q5832, List.forall_mem_cons.mpr ⟨fun _ => Or.inl q5833, List.forall_mem_cons.mpr ⟨fun _ => Or.inl q5834, List.forall_mem_cons.mpr ⟨fun h => absurd h (by decide), List.forall_mem_cons.mpr ⟨fun h => absurd h (by decide), List.forall_mem_cons.mpr ⟨fun _ => Or.inl q1232, List.forall_mem_cons.mpr ⟨fun _ => Or.inl q1231, List.forall_mem_cons.mpr ⟨fun _ => Or.inl q5835, fun _ h => absurd h List.not_mem_nil⟩⟩⟩⟩⟩⟩⟩⟩⟩⟩⟩⟩⟩⟩
theorem bkm_50 {l : Launch} (hl : l.stackTraces = false) : BKM l RX40 TB50 ⟨RX40, "<init>", "(I)V"⟩ cX40_init := met_bk0 (fn := "why") hl (by decide +kernel) dX40_init_0 dX40_init_1 dX40_init_4 dX40_init_5 dX40_init_6 dX40_init_9 supA_50 inB_50 rfl q5840
theorem gf_Md_197_24 : GF "LibraryDeskModel" "LibraryDeskModel" "LibraryDesk" 197 2 248 24 := ⟨RX14, TX14, 131, 107, by decide, clr_24, in_X14, by decide, rfl, Or.inl q4599, rfl⟩
theorem hdd_Md_letsGo_ : yX14_letsGo.cls ≠ "java/lang/invoke/MethodHandle" ∧ yX14_letsGo.cls ≠ "java/lang/invoke/VarHandle" ∧ (parseMethodDescriptor yX14_letsGo.desc).map (fun d => d.parameters.length) = some 1 := by decide +kernel
theorem mok_Md_letsGo : MOK m_Md_letsGo := ⟨by decide +kernel, by decide, cd_Md_letsGo, pg_Md_letsGo⟩
theorem gf_Md_1082_24 : GF "LibraryDeskModel" "LibraryDeskModel" "LibraryDesk" 1082 0 247 24 := ⟨RX14, TX14, 131, 106, by decide, clr_24, in_X14, by decide, rfl, Or.inl q4598, rfl⟩
theorem hdd_Md_nextOfSource_ : yX14_nextOfSource.cls ≠ "java/lang/invoke/MethodHandle" ∧ yX14_nextOfSource.cls ≠ "java/lang/invoke/VarHandle" ∧ (parseMethodDescriptor yX14_nextOfSource.desc).map (fun d => d.parameters.length) = some 0 := by decide +kernel
theorem mok_Md_nextOfSource : MOK m_Md_nextOfSource := ⟨by decide +kernel, by decide, cd_Md_nextOfSource, pg_Md_nextOfSource⟩
theorem pf_Md_1092_24 {m : Nat} : PF m "LibraryDeskModel" "LibraryDeskModel" "LibraryDesk" 1092 0 246 .int 24 := ⟨RX14, TX14, 131, 105, tyX14, by decide, clr_24, in_X14, tyX14_ok, nmX14, by decide, rfl, nd_24, Or.inl ⟨q4597, rfl⟩, rfl, by decide +kernel⟩
theorem hdd_Md_maps_ : yX14_maps.cls ≠ "java/lang/invoke/MethodHandle" ∧ yX14_maps.cls ≠ "java/lang/invoke/VarHandle" ∧ (parseMethodDescriptor yX14_maps.desc).map (fun d => d.parameters.length) = some 3 := by decide +kernel
theorem mok_Md_maps : MOK m_Md_maps := ⟨by decide +kernel, by decide, cd_Md_maps, pg_Md_maps⟩
theorem hdd_Md_isNew_ : yX14_isNew.cls ≠ "java/lang/invoke/MethodHandle" ∧ yX14_isNew.cls ≠ "java/lang/invoke/VarHandle" ∧ (parseMethodDescriptor yX14_isNew.desc).map (fun d => d.parameters.length) = some 1 := by decide +kernel
theorem mok_Md_isNew : MOK m_Md_isNew := ⟨by decide +kernel, by decide, cd_Md_isNew, pg_Md_isNew⟩
theorem hdd_Md_nextSorted_ : yX14_nextSorted.cls ≠ "java/lang/invoke/MethodHandle" ∧ yX14_nextSorted.cls ≠ "java/lang/invoke/VarHandle" ∧ (parseMethodDescriptor yX14_nextSorted.desc).map (fun d => d.parameters.length) = some 1 := by decide +kernel
theorem mok_Md_nextSorted : MOK m_Md_nextSorted := ⟨by decide +kernel, by decide, cd_Md_nextSorted, pg_Md_nextSorted⟩
theorem gf_Md_1012_24 : GF "LibraryDeskModel" "LibraryDeskModel" "LibraryDesk" 1012 0 235 24 := ⟨RX14, TX14, 131, 94, by decide, clr_24, in_X14, by decide, rfl, Or.inl q4586, rfl⟩
theorem gf_Md_1111_24 : GF "LibraryDeskModel" "LibraryDeskModel" "LibraryDesk" 1111 0 238 24 := ⟨RX14, TX14, 131, 97, by decide, clr_24, in_X14, by decide, rfl, Or.inl q4589, rfl⟩
theorem gf_Md_1114_24 : GF "LibraryDeskModel" "LibraryDeskModel" "LibraryDesk" 1114 0 239 24 := ⟨RX14, TX14, 131, 98, by decide, clr_24, in_X14, by decide, rfl, Or.inl q4590, rfl⟩
theorem gf_Md_1117_24 : GF "LibraryDeskModel" "LibraryDeskModel" "LibraryDesk" 1117 0 244 24 := ⟨RX14, TX14, 131, 103, by decide, clr_24, in_X14, by decide, rfl, Or.inl q4595, rfl⟩
theorem gf_Md_1025_24 : GF "LibraryDeskModel" "LibraryDeskModel" "LibraryDesk" 1025 0 236 24 := ⟨RX14, TX14, 131, 95, by decide, clr_24, in_X14, by decide, rfl, Or.inl q4587, rfl⟩
theorem gf_Md_1028_24 : GF "LibraryDeskModel" "LibraryDeskModel" "LibraryDesk" 1028 0 237 24 := ⟨RX14, TX14, 131, 96, by decide, clr_24, in_X14, by decide, rfl, Or.inl q4588, rfl⟩
theorem gf_Md_194_24 : GF "LibraryDeskModel" "LibraryDeskModel" "LibraryDesk" 194 2 231 24 := ⟨RX14, TX14, 131, 90, by decide, clr_24, in_X14, by decide, rfl, Or.inl q4582, rfl⟩
theorem hdd_Md_keepOne_ : yX14_keepOne.cls ≠ "java/lang/invoke/MethodHandle" ∧ yX14_keepOne.cls ≠ "java/lang/invoke/VarHandle" ∧ (parseMethodDescriptor yX14_keepOne.desc).map (fun d => d.parameters.length) = some 2 := by decide +kernel
theorem mok_Md_keepOne : MOK m_Md_keepOne := ⟨by decide +kernel, by decide, cd_Md_keepOne, pg_Md_keepOne⟩
theorem hdd_Md_readProgram_ : yX14_readProgram.cls ≠ "java/lang/invoke/MethodHandle" ∧ yX14_readProgram.cls ≠ "java/lang/invoke/VarHandle" ∧ (parseMethodDescriptor yX14_readProgram.desc).map (fun d => d.parameters.length) = some 0 := by decide +kernel
theorem mok_Md_readProgram : MOK m_Md_readProgram := ⟨by decide +kernel, by decide, cd_Md_readProgram, pg_Md_readProgram⟩
theorem gf_Md_206_24 : GF "LibraryDeskModel" "LibraryDeskModel" "LibraryDesk" 206 2 251 24 := ⟨RX14, TX14, 131, 110, by decide, clr_24, in_X14, by decide, rfl, Or.inl q4602, rfl⟩
theorem gf_Md_1154_24 : GF "LibraryDeskModel" "LibraryDeskModel" "LibraryDesk" 1154 0 268 24 := ⟨RX14, TX14, 131, 127, by decide, clr_24, in_X14, by decide, rfl, Or.inl q4619, rfl⟩
theorem gf_Md_252_24 : GF "LibraryDeskModel" "LibraryDeskModel" "LibraryDesk" 252 2 267 24 := ⟨RX14, TX14, 131, 126, by decide, clr_24, in_X14, by decide, rfl, Or.inl q4618, rfl⟩
theorem gf_Md_203_24 : GF "LibraryDeskModel" "LibraryDeskModel" "LibraryDesk" 203 2 250 24 := ⟨RX14, TX14, 131, 109, by decide, clr_24, in_X14, by decide, rfl, Or.inl q4601, rfl⟩
theorem gf_Md_209_24 : GF "LibraryDeskModel" "LibraryDeskModel" "LibraryDesk" 209 2 252 24 := ⟨RX14, TX14, 131, 111, by decide, clr_24, in_X14, by decide, rfl, Or.inl q4603, rfl⟩
theorem gf_Md_212_24 : GF "LibraryDeskModel" "LibraryDeskModel" "LibraryDesk" 212 2 253 24 := ⟨RX14, TX14, 131, 112, by decide, clr_24, in_X14, by decide, rfl, Or.inl q4604, rfl⟩
theorem gf_Md_215_24 : GF "LibraryDeskModel" "LibraryDeskModel" "LibraryDesk" 215 2 254 24 := ⟨RX14, TX14, 131, 113, by decide, clr_24, in_X14, by decide, rfl, Or.inl q4605, rfl⟩
theorem gf_Md_218_24 : GF "LibraryDeskModel" "LibraryDeskModel" "LibraryDesk" 218 2 255 24 := ⟨RX14, TX14, 131, 114, by decide, clr_24, in_X14, by decide, rfl, Or.inl q4606, rfl⟩
theorem gf_Md_227_24 : GF "LibraryDeskModel" "LibraryDeskModel" "LibraryDesk" 227 2 258 24 := ⟨RX14, TX14, 131, 117, by decide, clr_24, in_X14, by decide, rfl, Or.inl q4609, rfl⟩
theorem gf_Md_230_24 : GF "LibraryDeskModel" "LibraryDeskModel" "LibraryDesk" 230 2 259 24 := ⟨RX14, TX14, 131, 118, by decide, clr_24, in_X14, by decide, rfl, Or.inl q4610, rfl⟩
theorem gf_Md_233_24 : GF "LibraryDeskModel" "LibraryDeskModel" "LibraryDesk" 233 2 260 24 := ⟨RX14, TX14, 131, 119, by decide, clr_24, in_X14, by decide, rfl, Or.inl q4611, rfl⟩
theorem pf_Md_1154_24 {m : Nat} : PF m "LibraryDeskModel" "LibraryDeskModel" "LibraryDesk" 1154 0 268 .int 24 := ⟨RX14, TX14, 131, 127, tyX14, by decide, clr_24, in_X14, tyX14_ok, nmX14, by decide, rfl, nd_24, Or.inl ⟨q4619, rfl⟩, rfl, by decide +kernel⟩
theorem hdd_Md_lineToken_ : yX14_lineToken.cls ≠ "java/lang/invoke/MethodHandle" ∧ yX14_lineToken.cls ≠ "java/lang/invoke/VarHandle" ∧ (parseMethodDescriptor yX14_lineToken.desc).map (fun d => d.parameters.length) = some 0 := by decide +kernel
theorem mok_Md_lineToken : MOK m_Md_lineToken := ⟨by decide +kernel, by decide, cd_Md_lineToken, pg_Md_lineToken⟩
theorem hdd_Md_instruction_ : yX14_instruction.cls ≠ "java/lang/invoke/MethodHandle" ∧ yX14_instruction.cls ≠ "java/lang/invoke/VarHandle" ∧ (parseMethodDescriptor yX14_instruction.desc).map (fun d => d.parameters.length) = some 0 := by decide +kernel
theorem mok_Md_instruction : MOK m_Md_instruction := ⟨by decide +kernel, by decide, cd_Md_instruction, pg_Md_instruction⟩
theorem hdd_Md_lineNumber_ : yX14_lineNumber.cls ≠ "java/lang/invoke/MethodHandle" ∧ yX14_lineNumber.cls ≠ "java/lang/invoke/VarHandle" ∧ (parseMethodDescriptor yX14_lineNumber.desc).map (fun d => d.parameters.length) = some 2 := by decide +kernel
theorem mok_Md_lineNumber : MOK m_Md_lineNumber := ⟨by decide +kernel, by decide, cd_Md_lineNumber, pg_Md_lineNumber⟩
theorem srr_114 : ("LibraryDeskModel", 1145, "load add jump zero less sleep end lock try unlock wait signal all get set inc cas acquire release drain down await meet put take offer poll give join ", 114) ∈ srT := List.mem_of_getElem? (i := 114) rfl
theorem hdd_Md_isThis_ : yX14_isThis.cls ≠ "java/lang/invoke/MethodHandle" ∧ yX14_isThis.cls ≠ "java/lang/invoke/VarHandle" ∧ (parseMethodDescriptor yX14_isThis.desc).map (fun d => d.parameters.length) = some 3 := by decide +kernel
theorem mok_Md_isThis : MOK m_Md_isThis := ⟨by decide +kernel, by decide, cd_Md_isThis, pg_Md_isThis⟩
theorem hdd_Md_stepOf_ : yX14_stepOf.cls ≠ "java/lang/invoke/MethodHandle" ∧ yX14_stepOf.cls ≠ "java/lang/invoke/VarHandle" ∧ (parseMethodDescriptor yX14_stepOf.desc).map (fun d => d.parameters.length) = some 1 := by decide +kernel
theorem mok_Md_stepOf : MOK m_Md_stepOf := ⟨by decide +kernel, by decide, cd_Md_stepOf, pg_Md_stepOf⟩
theorem hdd_Md_one_2_ : yX14_one_2.cls ≠ "java/lang/invoke/MethodHandle" ∧ yX14_one_2.cls ≠ "java/lang/invoke/VarHandle" ∧ (parseMethodDescriptor yX14_one_2.desc).map (fun d => d.parameters.length) = some 1 := by decide +kernel
theorem mok_Md_one_2 : MOK m_Md_one_2 := ⟨by decide +kernel, by decide, cd_Md_one_2, pg_Md_one_2⟩
theorem hdd_Md_rowOf_ : yX14_rowOf.cls ≠ "java/lang/invoke/MethodHandle" ∧ yX14_rowOf.cls ≠ "java/lang/invoke/VarHandle" ∧ (parseMethodDescriptor yX14_rowOf.desc).map (fun d => d.parameters.length) = some 1 := by decide +kernel
theorem mok_Md_rowOf : MOK m_Md_rowOf := ⟨by decide +kernel, by decide, cd_Md_rowOf, pg_Md_rowOf⟩
theorem hdd_Md_leaves_ : yX14_leaves.cls ≠ "java/lang/invoke/MethodHandle" ∧ yX14_leaves.cls ≠ "java/lang/invoke/VarHandle" ∧ (parseMethodDescriptor yX14_leaves.desc).map (fun d => d.parameters.length) = some 2 := by decide +kernel
theorem mok_Md_leaves : MOK m_Md_leaves := ⟨by decide +kernel, by decide, cd_Md_leaves, pg_Md_leaves⟩
theorem hdd_Md_getsLock_ : yX14_getsLock.cls ≠ "java/lang/invoke/MethodHandle" ∧ yX14_getsLock.cls ≠ "java/lang/invoke/VarHandle" ∧ (parseMethodDescriptor yX14_getsLock.desc).map (fun d => d.parameters.length) = some 2 := by decide +kernel
theorem mok_Md_getsLock : MOK m_Md_getsLock := ⟨by decide +kernel, by decide, cd_Md_getsLock, pg_Md_getsLock⟩
theorem hdd_Md_goesOn_ : yX14_goesOn.cls ≠ "java/lang/invoke/MethodHandle" ∧ yX14_goesOn.cls ≠ "java/lang/invoke/VarHandle" ∧ (parseMethodDescriptor yX14_goesOn.desc).map (fun d => d.parameters.length) = some 1 := by decide +kernel
theorem mok_Md_goesOn : MOK m_Md_goesOn := ⟨by decide +kernel, by decide, cd_Md_goesOn, pg_Md_goesOn⟩
theorem hdd_Md_kindOf_ : yX14_kindOf.cls ≠ "java/lang/invoke/MethodHandle" ∧ yX14_kindOf.cls ≠ "java/lang/invoke/VarHandle" ∧ (parseMethodDescriptor yX14_kindOf.desc).map (fun d => d.parameters.length) = some 1 := by decide +kernel
theorem mok_Md_kindOf : MOK m_Md_kindOf := ⟨by decide +kernel, by decide, cd_Md_kindOf, pg_Md_kindOf⟩
theorem hdd_Md_fails_ : yX14_fails.cls ≠ "java/lang/invoke/MethodHandle" ∧ yX14_fails.cls ≠ "java/lang/invoke/VarHandle" ∧ (parseMethodDescriptor yX14_fails.desc).map (fun d => d.parameters.length) = some 2 := by decide +kernel
theorem mok_Md_fails : MOK m_Md_fails := ⟨by decide +kernel, by decide, cd_Md_fails, pg_Md_fails⟩
theorem hdd_Md_stopped_ : yX14_stopped.cls ≠ "java/lang/invoke/MethodHandle" ∧ yX14_stopped.cls ≠ "java/lang/invoke/VarHandle" ∧ (parseMethodDescriptor yX14_stopped.desc).map (fun d => d.parameters.length) = some 1 := by decide +kernel
theorem mok_Md_stopped : MOK m_Md_stopped := ⟨by decide +kernel, by decide, cd_Md_stopped, pg_Md_stopped⟩
theorem gf_Md_236_24 : GF "LibraryDeskModel" "LibraryDeskModel" "LibraryDesk" 236 2 261 24 := ⟨RX14, TX14, 131, 120, by decide, clr_24, in_X14, by decide, rfl, Or.inl q4612, rfl⟩
theorem gf_Md_1200_24 : GF "LibraryDeskModel" "LibraryDeskModel" "LibraryDesk" 1200 1 262 24 := ⟨RX14, TX14, 131, 121, by decide, clr_24, in_X14, by decide, rfl, Or.inl q4613, rfl⟩
theorem hdd_Md_with_ : yX14_with.cls ≠ "java/lang/invoke/MethodHandle" ∧ yX14_with.cls ≠ "java/lang/invoke/VarHandle" ∧ (parseMethodDescriptor yX14_with.desc).map (fun d => d.parameters.length) = some 5 := by decide +kernel
theorem mok_Md_with : MOK m_Md_with := ⟨by decide +kernel, by decide, cd_Md_with, pg_Md_with⟩
theorem gf_Md_246_24 : GF "LibraryDeskModel" "LibraryDeskModel" "LibraryDesk" 246 2 265 24 := ⟨RX14, TX14, 131, 124, by decide, clr_24, in_X14, by decide, rfl, Or.inl q4616, rfl⟩
theorem hdd_Md_without_2_ : yX14_without_2.cls ≠ "java/lang/invoke/MethodHandle" ∧ yX14_without_2.cls ≠ "java/lang/invoke/VarHandle" ∧ (parseMethodDescriptor yX14_without_2.desc).map (fun d => d.parameters.length) = some 3 := by decide +kernel
theorem mok_Md_without_2 : MOK m_Md_without_2 := ⟨by decide +kernel, by decide, cd_Md_without_2, pg_Md_without_2⟩
theorem gf_Md_221_24 : GF "LibraryDeskModel" "LibraryDeskModel" "LibraryDesk" 221 2 256 24 := ⟨RX14, TX14, 131, 115, by decide, clr_24, in_X14, by decide, rfl, Or.inl q4607, rfl⟩
theorem gf_Md_224_24 : GF "LibraryDeskModel" "LibraryDeskModel" "LibraryDesk" 224 2 257 24 := ⟨RX14, TX14, 131, 116, by decide, clr_24, in_X14, by decide, rfl, Or.inl q4608, rfl⟩
theorem hdd_Md_waitFor_ : yX14_waitFor.cls ≠ "java/lang/invoke/MethodHandle" ∧ yX14_waitFor.cls ≠ "java/lang/invoke/VarHandle" ∧ (parseMethodDescriptor yX14_waitFor.desc).map (fun d => d.parameters.length) = some 2 := by decide +kernel
theorem mok_Md_waitFor : MOK m_Md_waitFor := ⟨by decide +kernel, by decide, cd_Md_waitFor, pg_Md_waitFor⟩
theorem hdd_Md_owned_ : yX14_owned.cls ≠ "java/lang/invoke/MethodHandle" ∧ yX14_owned.cls ≠ "java/lang/invoke/VarHandle" ∧ (parseMethodDescriptor yX14_owned.desc).map (fun d => d.parameters.length) = some 3 := by decide +kernel
theorem mok_Md_owned : MOK m_Md_owned := ⟨by decide +kernel, by decide, cd_Md_owned, pg_Md_owned⟩
theorem hdd_Md_firstGoesOn_ : yX14_firstGoesOn.cls ≠ "java/lang/invoke/MethodHandle" ∧ yX14_firstGoesOn.cls ≠ "java/lang/invoke/VarHandle" ∧ (parseMethodDescriptor yX14_firstGoesOn.desc).map (fun d => d.parameters.length) = some 1 := by decide +kernel
theorem mok_Md_firstGoesOn : MOK m_Md_firstGoesOn := ⟨by decide +kernel, by decide, cd_Md_firstGoesOn, pg_Md_firstGoesOn⟩
theorem hdd_Md_queue_ : yX14_queue.cls ≠ "java/lang/invoke/MethodHandle" ∧ yX14_queue.cls ≠ "java/lang/invoke/VarHandle" ∧ (parseMethodDescriptor yX14_queue.desc).map (fun d => d.parameters.length) = some 3 := by decide +kernel
theorem mok_Md_queue : MOK m_Md_queue := ⟨by decide +kernel, by decide, cd_Md_queue, pg_Md_queue⟩
theorem hdd_Md_joins_ : yX14_joins.cls ≠ "java/lang/invoke/MethodHandle" ∧ yX14_joins.cls ≠ "java/lang/invoke/VarHandle" ∧ (parseMethodDescriptor yX14_joins.desc).map (fun d => d.parameters.length) = some 2 := by decide +kernel
theorem mok_Md_joins : MOK m_Md_joins := ⟨by decide +kernel, by decide, cd_Md_joins, pg_Md_joins⟩
theorem hdd_Md_append_ : yX14_append.cls ≠ "java/lang/invoke/MethodHandle" ∧ yX14_append.cls ≠ "java/lang/invoke/VarHandle" ∧ (parseMethodDescriptor yX14_append.desc).map (fun d => d.parameters.length) = some 3 := by decide +kernel
theorem mok_Md_append : MOK m_Md_append := ⟨by decide +kernel, by decide, cd_Md_append, pg_Md_append⟩
theorem hdd_Md_freed_ : yX14_freed.cls ≠ "java/lang/invoke/MethodHandle" ∧ yX14_freed.cls ≠ "java/lang/invoke/VarHandle" ∧ (parseMethodDescriptor yX14_freed.desc).map (fun d => d.parameters.length) = some 1 := by decide +kernel
theorem mok_Md_freed : MOK m_Md_freed := ⟨by decide +kernel, by decide, cd_Md_freed, pg_Md_freed⟩
theorem hdd_Md_joins2_ : yX14_joins2.cls ≠ "java/lang/invoke/MethodHandle" ∧ yX14_joins2.cls ≠ "java/lang/invoke/VarHandle" ∧ (parseMethodDescriptor yX14_joins2.desc).map (fun d => d.parameters.length) = some 2 := by decide +kernel
theorem mok_Md_joins2 : MOK m_Md_joins2 := ⟨by decide +kernel, by decide, cd_Md_joins2, pg_Md_joins2⟩
theorem gf_Md_249_24 : GF "LibraryDeskModel" "LibraryDeskModel" "LibraryDesk" 249 2 266 24 := ⟨RX14, TX14, 131, 125, by decide, clr_24, in_X14, by decide, rfl, Or.inl q4617, rfl⟩
theorem hdd_Md_signalled_ : yX14_signalled.cls ≠ "java/lang/invoke/MethodHandle" ∧ yX14_signalled.cls ≠ "java/lang/invoke/VarHandle" ∧ (parseMethodDescriptor yX14_signalled.desc).map (fun d => d.parameters.length) = some 2 := by decide +kernel
theorem mok_Md_signalled : MOK m_Md_signalled := ⟨by decide +kernel, by decide, cd_Md_signalled, pg_Md_signalled⟩
theorem hdd_Md_comesToRow_ : yX14_comesToRow.cls ≠ "java/lang/invoke/MethodHandle" ∧ yX14_comesToRow.cls ≠ "java/lang/invoke/VarHandle" ∧ (parseMethodDescriptor yX14_comesToRow.desc).map (fun d => d.parameters.length) = some 2 := by decide +kernel
theorem mok_Md_comesToRow : MOK m_Md_comesToRow := ⟨by decide +kernel, by decide, cd_Md_comesToRow, pg_Md_comesToRow⟩
theorem hdd_Md_isPutter_ : yX14_isPutter.cls ≠ "java/lang/invoke/MethodHandle" ∧ yX14_isPutter.cls ≠ "java/lang/invoke/VarHandle" ∧ (parseMethodDescriptor yX14_isPutter.desc).map (fun d => d.parameters.length) = some 1 := by decide +kernel
theorem mok_Md_isPutter : MOK m_Md_isPutter := ⟨by decide +kernel, by decide, cd_Md_isPutter, pg_Md_isPutter⟩
theorem pf_Md_1200_24 {m : Nat} : PF m "LibraryDeskModel" "LibraryDeskModel" "LibraryDesk" 1200 1 262 .long 24 := ⟨RX14, TX14, 131, 121, tyX14, by decide, clr_24, in_X14, tyX14_ok, nmX14, by decide, rfl, nd_24, Or.inl ⟨q4613, rfl⟩, rfl, by decide +kernel⟩
theorem hdd_Md_nextOf_ : yX14_nextOf.cls ≠ "java/lang/invoke/MethodHandle" ∧ yX14_nextOf.cls ≠ "java/lang/invoke/VarHandle" ∧ (parseMethodDescriptor yX14_nextOf.desc).map (fun d => d.parameters.length) = some 1 := by decide +kernel
theorem mok_Md_nextOf : MOK m_Md_nextOf := ⟨by decide +kernel, by decide, cd_Md_nextOf, pg_Md_nextOf⟩
theorem hdd_Md_daysOf_ : yX14_daysOf.cls ≠ "java/lang/invoke/MethodHandle" ∧ yX14_daysOf.cls ≠ "java/lang/invoke/VarHandle" ∧ (parseMethodDescriptor yX14_daysOf.desc).map (fun d => d.parameters.length) = some 2 := by decide +kernel
theorem mok_Md_daysOf : MOK m_Md_daysOf := ⟨by decide +kernel, by decide, cd_Md_daysOf, pg_Md_daysOf⟩
theorem hdd_Md_dayOf_ : yX14_dayOf.cls ≠ "java/lang/invoke/MethodHandle" ∧ yX14_dayOf.cls ≠ "java/lang/invoke/VarHandle" ∧ (parseMethodDescriptor yX14_dayOf.desc).map (fun d => d.parameters.length) = some 3 := by decide +kernel
theorem mok_Md_dayOf : MOK m_Md_dayOf := ⟨by decide +kernel, by decide, cd_Md_dayOf, pg_Md_dayOf⟩
theorem hdd_Md_isLeap_ : yX14_isLeap.cls ≠ "java/lang/invoke/MethodHandle" ∧ yX14_isLeap.cls ≠ "java/lang/invoke/VarHandle" ∧ (parseMethodDescriptor yX14_isLeap.desc).map (fun d => d.parameters.length) = some 1 := by decide +kernel
theorem mok_Md_isLeap : MOK m_Md_isLeap := ⟨by decide +kernel, by decide, cd_Md_isLeap, pg_Md_isLeap⟩
theorem hdd_Md_firstOf_ : yX14_firstOf.cls ≠ "java/lang/invoke/MethodHandle" ∧ yX14_firstOf.cls ≠ "java/lang/invoke/VarHandle" ∧ (parseMethodDescriptor yX14_firstOf.desc).map (fun d => d.parameters.length) = some 1 := by decide +kernel
theorem mok_Md_firstOf : MOK m_Md_firstOf := ⟨by decide +kernel, by decide, cd_Md_firstOf, pg_Md_firstOf⟩
theorem hdd_Math_floorDiv_2_ : yJ12_floorDiv_2.cls ≠ "java/lang/invoke/MethodHandle" ∧ yJ12_floorDiv_2.cls ≠ "java/lang/invoke/VarHandle" ∧ (parseMethodDescriptor yJ12_floorDiv_2.desc).map (fun d => d.parameters.length) = some 2 := by decide +kernel
theorem mok_Math_floorDiv_2 : MOK m_Math_floorDiv_2 := ⟨by decide +kernel, by decide, cd_Math_floorDiv_2, pg_Math_floorDiv_2⟩
theorem hdd_Md_isDay_ : yX14_isDay.cls ≠ "java/lang/invoke/MethodHandle" ∧ yX14_isDay.cls ≠ "java/lang/invoke/VarHandle" ∧ (parseMethodDescriptor yX14_isDay.desc).map (fun d => d.parameters.length) = some 1 := by decide +kernel
theorem mok_Md_isDay : MOK m_Md_isDay := ⟨by decide +kernel, by decide, cd_Md_isDay, pg_Md_isDay⟩
theorem hdd_Md_split_2_ : yX14_split_2.cls ≠ "java/lang/invoke/MethodHandle" ∧ yX14_split_2.cls ≠ "java/lang/invoke/VarHandle" ∧ (parseMethodDescriptor yX14_split_2.desc).map (fun d => d.parameters.length) = some 1 := by decide +kernel
theorem mok_Md_split_2 : MOK m_Md_split_2 := ⟨by decide +kernel, by decide, cd_Md_split_2, pg_Md_split_2⟩
theorem gf_Md_1266_24 : GF "LibraryDeskModel" "LibraryDeskModel" "LibraryDesk" 1266 0 270 24 := ⟨RX14, TX14, 131, 129, by decide, clr_24, in_X14, by decide, rfl, Or.inl q4621, rfl⟩
theorem gf_Md_1263_24 : GF "LibraryDeskModel" "LibraryDeskModel" "LibraryDesk" 1263 0 269 24 := ⟨RX14, TX14, 131, 128, by decide, clr_24, in_X14, by decide, rfl, Or.inl q4620, rfl⟩
theorem gf_Md_1269_24 : GF "LibraryDeskModel" "LibraryDeskModel" "LibraryDesk" 1269 0 271 24 := ⟨RX14, TX14, 131, 130, by decide, clr_24, in_X14, by decide, rfl, Or.inl q4622, rfl⟩
theorem hdd_Md_weekday_ : yX14_weekday.cls ≠ "java/lang/invoke/MethodHandle" ∧ yX14_weekday.cls ≠ "java/lang/invoke/VarHandle" ∧ (parseMethodDescriptor yX14_weekday.desc).map (fun d => d.parameters.length) = some 1 := by decide +kernel
theorem mok_Md_weekday : MOK m_Md_weekday := ⟨by decide +kernel, by decide, cd_Md_weekday, pg_Md_weekday⟩
theorem pf_Md_1263_24 {m : Nat} : PF m "LibraryDeskModel" "LibraryDeskModel" "LibraryDesk" 1263 0 269 .int 24 := ⟨RX14, TX14, 131, 128, tyX14, by decide, clr_24, in_X14, tyX14_ok, nmX14, by decide, rfl, nd_24, Or.inl ⟨q4620, rfl⟩, rfl, by decide +kernel⟩
theorem pf_Md_1266_24 {m : Nat} : PF m "LibraryDeskModel" "LibraryDeskModel" "LibraryDesk" 1266 0 270 .int 24 := ⟨RX14, TX14, 131, 129, tyX14, by decide, clr_24, in_X14, tyX14_ok, nmX14, by decide, rfl, nd_24, Or.inl ⟨q4621, rfl⟩, rfl, by decide +kernel⟩
theorem pf_Md_1269_24 {m : Nat} : PF m "LibraryDeskModel" "LibraryDeskModel" "LibraryDesk" 1269 0 271 .int 24 := ⟨RX14, TX14, 131, 130, tyX14, by decide, clr_24, in_X14, tyX14_ok, nmX14, by decide, rfl, nd_24, Or.inl ⟨q4622, rfl⟩, rfl, by decide +kernel⟩
theorem hdd_Md_added_ : yX14_added.cls ≠ "java/lang/invoke/MethodHandle" ∧ yX14_added.cls ≠ "java/lang/invoke/VarHandle" ∧ (parseMethodDescriptor yX14_added.desc).map (fun d => d.parameters.length) = some 3 := by decide +kernel
theorem mok_Md_added : MOK m_Md_added := ⟨by decide +kernel, by decide, cd_Md_added, pg_Md_added⟩
theorem hdd_Md_whole_2_ : yX14_whole_2.cls ≠ "java/lang/invoke/MethodHandle" ∧ yX14_whole_2.cls ≠ "java/lang/invoke/VarHandle" ∧ (parseMethodDescriptor yX14_whole_2.desc).map (fun d => d.parameters.length) = some 3 := by decide +kernel
theorem mok_Md_whole_2 : MOK m_Md_whole_2 := ⟨by decide +kernel, by decide, cd_Md_whole_2, pg_Md_whole_2⟩
theorem gf_Md_21_24 : GF "LibraryDeskModel" "LibraryDeskModel" "LibraryDesk" 21 0 148 24 := ⟨RX14, TX14, 131, 7, by decide, clr_24, in_X14, by decide, rfl, Or.inl q4500, rfl⟩
theorem gf_Md_1140_24 : GF "LibraryDeskModel" "LibraryDeskModel" "LibraryDesk" 1140 0 241 24 := ⟨RX14, TX14, 131, 100, by decide, clr_24, in_X14, by decide, rfl, Or.inl q4592, rfl⟩
theorem gf_Thing_7_44 : GF "LibraryDesk$Thing" "LibraryDesk$Thing" "LibraryDesk" 7 0 272 44 := ⟨RX34, TX34, 10, 0, by decide, clr_44, in_X34, by decide, rfl, Or.inl q1402, rfl⟩
theorem gf_Thing_7_43 : GF "LibraryDesk$Thing" "LibraryDesk$Thing" "LibraryDesk" 7 0 272 43 := ⟨RX33, TX33, 11, 0, by decide, clr_43, in_X33, by decide, rfl, Or.inl q1402, rfl⟩
theorem gf_Thing_7_42 : GF "LibraryDesk$Thing" "LibraryDesk$Thing" "LibraryDesk" 7 0 272 42 := ⟨RX32, TX32, 4, 0, by decide, clr_42, in_X32, by decide, rfl, Or.inl q1402, rfl⟩
theorem gf_Thing_7_41 : GF "LibraryDesk$Thing" "LibraryDesk$Thing" "LibraryDesk" 7 0 272 41 := ⟨RX31, TX31, 3, 0, by decide, clr_41, in_X31, by decide, rfl, Or.inl q1402, rfl⟩
theorem gf_Thing_7_40 : GF "LibraryDesk$Thing" "LibraryDesk$Thing" "LibraryDesk" 7 0 272 40 := ⟨RX30, TX30, 6, 0, by decide, clr_40, in_X30, by decide, rfl, Or.inl q1402, rfl⟩
theorem gf_Thing_7_39 : GF "LibraryDesk$Thing" "LibraryDesk$Thing" "LibraryDesk" 7 0 272 39 := ⟨RX29, TX29, 6, 0, by decide, clr_39, in_X29, by decide, rfl, Or.inl q1402, rfl⟩
theorem gf_Thing_7_38 : GF "LibraryDesk$Thing" "LibraryDesk$Thing" "LibraryDesk" 7 0 272 38 := ⟨RX28, TX28, 13, 0, by decide, clr_38, in_X28, by decide, rfl, Or.inl q1402, rfl⟩
theorem gf_Thing_7_37 : GF "LibraryDesk$Thing" "LibraryDesk$Thing" "LibraryDesk" 7 0 272 37 := ⟨RX27, TX27, 4, 0, by decide, clr_37, in_X27, by decide, rfl, Or.inl q1402, rfl⟩
theorem gf_Thing_7_36 : GF "LibraryDesk$Thing" "LibraryDesk$Thing" "LibraryDesk" 7 0 272 36 := ⟨RX26, TX26, 3, 0, by decide, clr_36, in_X26, by decide, rfl, Or.inl q1402, rfl⟩
theorem gf_Thing_7_35 : GF "LibraryDesk$Thing" "LibraryDesk$Thing" "LibraryDesk" 7 0 272 35 := ⟨RX25, TX25, 8, 0, by decide, clr_35, in_X25, by decide, rfl, Or.inl q1402, rfl⟩
theorem gf_Thing_7_34 : GF "LibraryDesk$Thing" "LibraryDesk$Thing" "LibraryDesk" 7 0 272 34 := ⟨RX24, TX24, 10, 0, by decide, clr_34, in_X24, by decide, rfl, Or.inl q1402, rfl⟩
theorem gf_Thing_7_33 : GF "LibraryDesk$Thing" "LibraryDesk$Thing" "LibraryDesk" 7 0 272 33 := ⟨RX23, TX23, 11, 0, by decide, clr_33, in_X23, by decide, rfl, Or.inl q1402, rfl⟩
theorem gf_Thing_7_31 : GF "LibraryDesk$Thing" "LibraryDesk$Thing" "LibraryDesk" 7 0 272 31 := ⟨RX21, TX21, 11, 0, by decide, clr_31, in_X21, by decide, rfl, Or.inl q1402, rfl⟩
theorem gf_Thing_7_29 : GF "LibraryDesk$Thing" "LibraryDesk$Thing" "LibraryDesk" 7 0 272 29 := ⟨RX19, TX19, 6, 0, by decide, clr_29, in_X19, by decide, rfl, Or.inl q1402, rfl⟩
theorem gf_Thing_7_27 : GF "LibraryDesk$Thing" "LibraryDesk$Thing" "LibraryDesk" 7 0 272 27 := ⟨RX17, TX17, 3, 0, by decide, clr_27, in_X17, by decide, rfl, Or.inl q1402, rfl⟩
theorem pf_Thing_init_7_44 : PF m_Thing_init "LibraryDesk$Thing" "LibraryDesk$Thing" "LibraryDesk" 7 0 272 .int 44 := ⟨RX34, TX34, 10, 0, tyX34, by decide, clr_44, in_X34, tyX34_ok, nmX34, by decide, rfl, nd_44, Or.inr (Or.inr ⟨q1402, rfl, rfl, rfl⟩), rfl, by decide +kernel⟩
theorem pf_Thing_init_7_43 : PF m_Thing_init "LibraryDesk$Thing" "LibraryDesk$Thing" "LibraryDesk" 7 0 272 .int 43 := ⟨RX33, TX33, 11, 0, tyX33, by decide, clr_43, in_X33, tyX33_ok, nmX33, by decide, rfl, nd_43, Or.inr (Or.inr ⟨q1402, rfl, rfl, rfl⟩), rfl, by decide +kernel⟩
theorem pf_Thing_init_7_42 : PF m_Thing_init "LibraryDesk$Thing" "LibraryDesk$Thing" "LibraryDesk" 7 0 272 .int 42 := ⟨RX32, TX32, 4, 0, tyX32, by decide, clr_42, in_X32, tyX32_ok, nmX32, by decide, rfl, nd_42, Or.inr (Or.inr ⟨q1402, rfl, rfl, rfl⟩), rfl, by decide +kernel⟩
theorem pf_Thing_init_7_41 : PF m_Thing_init "LibraryDesk$Thing" "LibraryDesk$Thing" "LibraryDesk" 7 0 272 .int 41 := ⟨RX31, TX31, 3, 0, tyX31, by decide, clr_41, in_X31, tyX31_ok, nmX31, by decide, rfl, nd_41, Or.inr (Or.inr ⟨q1402, rfl, rfl, rfl⟩), rfl, by decide +kernel⟩
theorem pf_Thing_init_7_40 : PF m_Thing_init "LibraryDesk$Thing" "LibraryDesk$Thing" "LibraryDesk" 7 0 272 .int 40 := ⟨RX30, TX30, 6, 0, tyX30, by decide, clr_40, in_X30, tyX30_ok, nmX30, by decide, rfl, nd_40, Or.inr (Or.inr ⟨q1402, rfl, rfl, rfl⟩), rfl, by decide +kernel⟩
theorem pf_Thing_init_7_39 : PF m_Thing_init "LibraryDesk$Thing" "LibraryDesk$Thing" "LibraryDesk" 7 0 272 .int 39 := ⟨RX29, TX29, 6, 0, tyX29, by decide, clr_39, in_X29, tyX29_ok, nmX29, by decide, rfl, nd_39, Or.inr (Or.inr ⟨q1402, rfl, rfl, rfl⟩), rfl, by decide +kernel⟩
theorem pf_Thing_init_7_38 : PF m_Thing_init "LibraryDesk$Thing" "LibraryDesk$Thing" "LibraryDesk" 7 0 272 .int 38 := ⟨RX28, TX28, 13, 0, tyX28, by decide, clr_38, in_X28, tyX28_ok, nmX28, by decide, rfl, nd_38, Or.inr (Or.inr ⟨q1402, rfl, rfl, rfl⟩), rfl, by decide +kernel⟩
theorem pf_Thing_init_7_37 : PF m_Thing_init "LibraryDesk$Thing" "LibraryDesk$Thing" "LibraryDesk" 7 0 272 .int 37 := ⟨RX27, TX27, 4, 0, tyX27, by decide, clr_37, in_X27, tyX27_ok, nmX27, by decide, rfl, nd_37, Or.inr (Or.inr ⟨q1402, rfl, rfl, rfl⟩), rfl, by decide +kernel⟩
theorem pf_Thing_init_7_36 : PF m_Thing_init "LibraryDesk$Thing" "LibraryDesk$Thing" "LibraryDesk" 7 0 272 .int 36 := ⟨RX26, TX26, 3, 0, tyX26, by decide, clr_36, in_X26, tyX26_ok, nmX26, by decide, rfl, nd_36, Or.inr (Or.inr ⟨q1402, rfl, rfl, rfl⟩), rfl, by decide +kernel⟩
theorem pf_Thing_init_7_35 : PF m_Thing_init "LibraryDesk$Thing" "LibraryDesk$Thing" "LibraryDesk" 7 0 272 .int 35 := ⟨RX25, TX25, 8, 0, tyX25, by decide, clr_35, in_X25, tyX25_ok, nmX25, by decide, rfl, nd_35, Or.inr (Or.inr ⟨q1402, rfl, rfl, rfl⟩), rfl, by decide +kernel⟩
theorem pf_Thing_init_7_34 : PF m_Thing_init "LibraryDesk$Thing" "LibraryDesk$Thing" "LibraryDesk" 7 0 272 .int 34 := ⟨RX24, TX24, 10, 0, tyX24, by decide, clr_34, in_X24, tyX24_ok, nmX24, by decide, rfl, nd_34, Or.inr (Or.inr ⟨q1402, rfl, rfl, rfl⟩), rfl, by decide +kernel⟩
theorem pf_Thing_init_7_33 : PF m_Thing_init "LibraryDesk$Thing" "LibraryDesk$Thing" "LibraryDesk" 7 0 272 .int 33 := ⟨RX23, TX23, 11, 0, tyX23, by decide, clr_33, in_X23, tyX23_ok, nmX23, by decide, rfl, nd_33, Or.inr (Or.inr ⟨q1402, rfl, rfl, rfl⟩), rfl, by decide +kernel⟩
theorem pf_Thing_init_7_31 : PF m_Thing_init "LibraryDesk$Thing" "LibraryDesk$Thing" "LibraryDesk" 7 0 272 .int 31 := ⟨RX21, TX21, 11, 0, tyX21, by decide, clr_31, in_X21, tyX21_ok, nmX21, by decide, rfl, nd_31, Or.inr (Or.inr ⟨q1402, rfl, rfl, rfl⟩), rfl, by decide +kernel⟩
theorem pf_Thing_init_7_29 : PF m_Thing_init "LibraryDesk$Thing" "LibraryDesk$Thing" "LibraryDesk" 7 0 272 .int 29 := ⟨RX19, TX19, 6, 0, tyX19, by decide, clr_29, in_X19, tyX19_ok, nmX19, by decide, rfl, nd_29, Or.inr (Or.inr ⟨q1402, rfl, rfl, rfl⟩), rfl, by decide +kernel⟩
theorem pf_Thing_init_7_27 : PF m_Thing_init "LibraryDesk$Thing" "LibraryDesk$Thing" "LibraryDesk" 7 0 272 .int 27 := ⟨RX17, TX17, 3, 0, tyX17, by decide, clr_27, in_X17, tyX17_ok, nmX17, by decide, rfl, nd_27, Or.inr (Or.inr ⟨q1402, rfl, rfl, rfl⟩), rfl, by decide +kernel⟩
theorem hdd_Thing_init_ : yX15_init.cls ≠ "java/lang/invoke/MethodHandle" ∧ yX15_init.cls ≠ "java/lang/invoke/VarHandle" ∧ (parseMethodDescriptor yX15_init.desc).map (fun d => d.parameters.length) = some 1 := by decide +kernel
theorem mok_Thing_init : MOK m_Thing_init := ⟨by decide +kernel, by decide, cd_Thing_init, pg_Thing_init⟩
theorem hdx_LibraryDesk_Places_from___I_0 : ("LibraryDesk$Places" : String) ≠ "java/lang/invoke/MethodHandle" ∧ ("LibraryDesk$Places" : String) ≠ "java/lang/invoke/VarHandle" ∧ (parseMethodDescriptor "()I").map (fun d => d.parameters.length) = some 0 := by decide +kernel
theorem mok_ViewThing_from : MOK m_ViewThing_from := ⟨by decide +kernel, by decide, cd_ViewThing_from, pg_ViewThing_from⟩
theorem mok_ListThing_from : MOK m_ListThing_from := ⟨by decide +kernel, by decide, cd_ListThing_from, pg_ListThing_from⟩
theorem hdx_LibraryDesk_Places_grew__I_V_0 : ("LibraryDesk$Places" : String) ≠ "java/lang/invoke/MethodHandle" ∧ ("LibraryDesk$Places" : String) ≠ "java/lang/invoke/VarHandle" ∧ (parseMethodDescriptor "(I)V").map (fun d => d.parameters.length) = some 1 := by decide +kernel
theorem mok_ViewThing_grew : MOK m_ViewThing_grew := ⟨by decide +kernel, by decide, cd_ViewThing_grew, pg_ViewThing_grew⟩
theorem mok_ListThing_grew : MOK m_ListThing_grew := ⟨by decide +kernel, by decide, cd_ListThing_grew, pg_ListThing_grew⟩
theorem gf_Places_13_28 : GF "LibraryDesk$Places" "LibraryDesk$Rows" "LibraryDesk" 13 2 275 28 := ⟨RX18, TX18, 4, 0, by decide, clr_28, in_X18, by decide, rfl, Or.inr nw1382, rfl⟩
theorem hdd_Rows_close_ : yX18_close.cls ≠ "java/lang/invoke/MethodHandle" ∧ yX18_close.cls ≠ "java/lang/invoke/VarHandle" ∧ (parseMethodDescriptor yX18_close.desc).map (fun d => d.parameters.length) = some 2 := by decide +kernel
theorem mok_Rows_close : MOK m_Rows_close := ⟨by decide +kernel, by decide, cd_Rows_close, pg_Rows_close⟩
theorem hdd_Places_init_ : yX16_init.cls ≠ "java/lang/invoke/MethodHandle" ∧ yX16_init.cls ≠ "java/lang/invoke/VarHandle" ∧ (parseMethodDescriptor yX16_init.desc).map (fun d => d.parameters.length) = some 1 := by decide +kernel
theorem mok_Places_init : MOK m_Places_init := ⟨by decide +kernel, by decide, cd_Places_init, pg_Places_init⟩
theorem pf_ListThing_init_14_27 : PF m_ListThing_init "LibraryDesk$ListThing" "LibraryDesk$ListThing" "LibraryDesk" 14 2 274 (.object "LibraryDesk$Rows") 27 := ⟨RX17, TX17, 3, 2, tyX17, by decide, clr_27, in_X17, tyX17_ok, nmX17, by decide, rfl, nd_27, Or.inr (Or.inr ⟨q1400, rfl, rfl, rfl⟩), rfl, by decide +kernel⟩
theorem hdd_Rows_init_ : yX18_init.cls ≠ "java/lang/invoke/MethodHandle" ∧ yX18_init.cls ≠ "java/lang/invoke/VarHandle" ∧ (parseMethodDescriptor yX18_init.desc).map (fun d => d.parameters.length) = some 0 := by decide +kernel
theorem mok_Rows_init : MOK m_Rows_init := ⟨by decide +kernel, by decide, cd_Rows_init, pg_Rows_init⟩
theorem nf_ListThing_9 : NF "LibraryDesk$ListThing" 9 28 4 := ⟨RX18, TX18, tyX18, by decide, clr_28, in_X18, tyX18_ok, q1375, q1376, q534, by decide +kernel⟩
theorem gf_ListThing_14_27 : GF "LibraryDesk$ListThing" "LibraryDesk$ListThing" "LibraryDesk" 14 2 274 27 := ⟨RX17, TX17, 3, 2, by decide, clr_27, in_X17, by decide, rfl, Or.inl q1400, rfl⟩
theorem gf_ListThing_20_28 : GF "LibraryDesk$ListThing" "LibraryDesk$Rows" "LibraryDesk" 20 0 276 28 := ⟨RX18, TX18, 4, 1, by decide, clr_28, in_X18, by decide, rfl, Or.inr nw1384, rfl⟩
theorem pf_Rows_init_9_28 : PF m_Rows_init "LibraryDesk$Rows" "LibraryDesk$Rows" "LibraryDesk" 9 2 275 (.array .int) 28 := ⟨RX18, TX18, 4, 0, tyX18, by decide, clr_28, in_X18, tyX18_ok, nmX18, by decide, rfl, nd_28, Or.inr (Or.inr ⟨q1381, rfl, rfl, rfl⟩), rfl, by decide +kernel⟩
theorem pf_Rows_15_28 {m : Nat} : PF m "LibraryDesk$Rows" "LibraryDesk$Rows" "LibraryDesk" 15 0 276 .int 28 := ⟨RX18, TX18, 4, 1, tyX18, by decide, clr_28, in_X18, tyX18_ok, nmX18, by decide, rfl, nd_28, Or.inl ⟨q1383, rfl⟩, rfl, by decide +kernel⟩
theorem pf_Rows_22_28 {m : Nat} : PF m "LibraryDesk$Rows" "LibraryDesk$Rows" "LibraryDesk" 22 0 278 .int 28 := ⟨RX18, TX18, 4, 3, tyX18, by decide, clr_28, in_X18, tyX18_ok, nmX18, by decide, rfl, nd_28, Or.inl ⟨q1388, rfl⟩, rfl, by decide +kernel⟩
theorem pf_Rows_19_28 {m : Nat} : PF m "LibraryDesk$Rows" "LibraryDesk$Rows" "LibraryDesk" 19 0 277 .int 28 := ⟨RX18, TX18, 4, 2, tyX18, by decide, clr_28, in_X18, tyX18_ok, nmX18, by decide, rfl, nd_28, Or.inl ⟨q1386, rfl⟩, rfl, by decide +kernel⟩
theorem gf_Rows_15_28 : GF "LibraryDesk$Rows" "LibraryDesk$Rows" "LibraryDesk" 15 0 276 28 := ⟨RX18, TX18, 4, 1, by decide, clr_28, in_X18, by decide, rfl, Or.inl q1383, rfl⟩
theorem gf_Rows_9_28 : GF "LibraryDesk$Rows" "LibraryDesk$Rows" "LibraryDesk" 9 2 275 28 := ⟨RX18, TX18, 4, 0, by decide, clr_28, in_X18, by decide, rfl, Or.inl q1381, rfl⟩
theorem gf_Rows_22_28 : GF "LibraryDesk$Rows" "LibraryDesk$Rows" "LibraryDesk" 22 0 278 28 := ⟨RX18, TX18, 4, 3, by decide, clr_28, in_X18, by decide, rfl, Or.inl q1388, rfl⟩
theorem gf_Rows_19_28 : GF "LibraryDesk$Rows" "LibraryDesk$Rows" "LibraryDesk" 19 0 277 28 := ⟨RX18, TX18, 4, 2, by decide, clr_28, in_X18, by decide, rfl, Or.inl q1386, rfl⟩
theorem pf_RingThing_init_9_29 : PF m_RingThing_init "LibraryDesk$RingThing" "LibraryDesk$RingThing" "LibraryDesk" 9 2 279 (.array .int) 29 := ⟨RX19, TX19, 6, 2, tyX19, by decide, clr_29, in_X19, tyX19_ok, nmX19, by decide, rfl, nd_29, Or.inr (Or.inr ⟨q1417, rfl, rfl, rfl⟩), rfl, by decide +kernel⟩
theorem gf_RingThing_15_29 : GF "LibraryDesk$RingThing" "LibraryDesk$RingThing" "LibraryDesk" 15 0 282 29 := ⟨RX19, TX19, 6, 5, by decide, clr_29, in_X19, by decide, rfl, Or.inl q1420, rfl⟩
theorem pf_RingThing_15_29 {m : Nat} : PF m "LibraryDesk$RingThing" "LibraryDesk$RingThing" "LibraryDesk" 15 0 282 .int 29 := ⟨RX19, TX19, 6, 5, tyX19, by decide, clr_29, in_X19, tyX19_ok, nmX19, by decide, rfl, nd_29, Or.inl ⟨q1420, rfl⟩, rfl, by decide +kernel⟩
theorem pf_RingThing_19_29 {m : Nat} : PF m "LibraryDesk$RingThing" "LibraryDesk$RingThing" "LibraryDesk" 19 0 280 .int 29 := ⟨RX19, TX19, 6, 3, tyX19, by decide, clr_29, in_X19, tyX19_ok, nmX19, by decide, rfl, nd_29, Or.inl ⟨q1418, rfl⟩, rfl, by decide +kernel⟩
theorem pf_RingThing_22_29 {m : Nat} : PF m "LibraryDesk$RingThing" "LibraryDesk$RingThing" "LibraryDesk" 22 0 281 .int 29 := ⟨RX19, TX19, 6, 4, tyX19, by decide, clr_29, in_X19, tyX19_ok, nmX19, by decide, rfl, nd_29, Or.inl ⟨q1419, rfl⟩, rfl, by decide +kernel⟩
theorem hdd_RingThing_add_ : yX19_add.cls ≠ "java/lang/invoke/MethodHandle" ∧ yX19_add.cls ≠ "java/lang/invoke/VarHandle" ∧ (parseMethodDescriptor yX19_add.desc).map (fun d => d.parameters.length) = some 2 := by decide +kernel
theorem mok_RingThing_add : MOK m_RingThing_add := ⟨by decide +kernel, by decide, cd_RingThing_add, pg_RingThing_add⟩
theorem gf_RingThing_22_29 : GF "LibraryDesk$RingThing" "LibraryDesk$RingThing" "LibraryDesk" 22 0 281 29 := ⟨RX19, TX19, 6, 4, by decide, clr_29, in_X19, by decide, rfl, Or.inl q1419, rfl⟩
theorem hdd_RingThing_take_ : yX19_take.cls ≠ "java/lang/invoke/MethodHandle" ∧ yX19_take.cls ≠ "java/lang/invoke/VarHandle" ∧ (parseMethodDescriptor yX19_take.desc).map (fun d => d.parameters.length) = some 1 := by decide +kernel
theorem mok_RingThing_take : MOK m_RingThing_take := ⟨by decide +kernel, by decide, cd_RingThing_take, pg_RingThing_take⟩
theorem hdd_RingThing_end_ : yX19_end.cls ≠ "java/lang/invoke/MethodHandle" ∧ yX19_end.cls ≠ "java/lang/invoke/VarHandle" ∧ (parseMethodDescriptor yX19_end.desc).map (fun d => d.parameters.length) = some 1 := by decide +kernel
theorem mok_RingThing_end : MOK m_RingThing_end := ⟨by decide +kernel, by decide, cd_RingThing_end, pg_RingThing_end⟩
theorem hdd_RingThing_remove_ : yX19_remove.cls ≠ "java/lang/invoke/MethodHandle" ∧ yX19_remove.cls ≠ "java/lang/invoke/VarHandle" ∧ (parseMethodDescriptor yX19_remove.desc).map (fun d => d.parameters.length) = some 2 := by decide +kernel
theorem mok_RingThing_remove : MOK m_RingThing_remove := ⟨by decide +kernel, by decide, cd_RingThing_remove, pg_RingThing_remove⟩
theorem hdd_RingThing_find_ : yX19_find.cls ≠ "java/lang/invoke/MethodHandle" ∧ yX19_find.cls ≠ "java/lang/invoke/VarHandle" ∧ (parseMethodDescriptor yX19_find.desc).map (fun d => d.parameters.length) = some 1 := by decide +kernel
theorem mok_RingThing_find : MOK m_RingThing_find := ⟨by decide +kernel, by decide, cd_RingThing_find, pg_RingThing_find⟩
theorem hdd_RingThing_get_ : yX19_get.cls ≠ "java/lang/invoke/MethodHandle" ∧ yX19_get.cls ≠ "java/lang/invoke/VarHandle" ∧ (parseMethodDescriptor yX19_get.desc).map (fun d => d.parameters.length) = some 1 := by decide +kernel
theorem mok_RingThing_get : MOK m_RingThing_get := ⟨by decide +kernel, by decide, cd_RingThing_get, pg_RingThing_get⟩
theorem hdd_RingThing_rotate_ : yX19_rotate.cls ≠ "java/lang/invoke/MethodHandle" ∧ yX19_rotate.cls ≠ "java/lang/invoke/VarHandle" ∧ (parseMethodDescriptor yX19_rotate.desc).map (fun d => d.parameters.length) = some 1 := by decide +kernel
theorem mok_RingThing_rotate : MOK m_RingThing_rotate := ⟨by decide +kernel, by decide, cd_RingThing_rotate, pg_RingThing_rotate⟩
theorem hdd_RingThing_hash_ : yX19_hash.cls ≠ "java/lang/invoke/MethodHandle" ∧ yX19_hash.cls ≠ "java/lang/invoke/VarHandle" ∧ (parseMethodDescriptor yX19_hash.desc).map (fun d => d.parameters.length) = some 0 := by decide +kernel
theorem mok_RingThing_hash : MOK m_RingThing_hash := ⟨by decide +kernel, by decide, cd_RingThing_hash, pg_RingThing_hash⟩
theorem gf_RingThing_19_29 : GF "LibraryDesk$RingThing" "LibraryDesk$RingThing" "LibraryDesk" 19 0 280 29 := ⟨RX19, TX19, 6, 3, by decide, clr_29, in_X19, by decide, rfl, Or.inl q1418, rfl⟩
theorem gf_RingThing_9_29 : GF "LibraryDesk$RingThing" "LibraryDesk$RingThing" "LibraryDesk" 9 2 279 29 := ⟨RX19, TX19, 6, 2, by decide, clr_29, in_X19, by decide, rfl, Or.inl q1417, rfl⟩
theorem hdd_RingThing_twice_ : yX19_twice.cls ≠ "java/lang/invoke/MethodHandle" ∧ yX19_twice.cls ≠ "java/lang/invoke/VarHandle" ∧ (parseMethodDescriptor yX19_twice.desc).map (fun d => d.parameters.length) = some 0 := by decide +kernel
theorem mok_RingThing_twice : MOK m_RingThing_twice := ⟨by decide +kernel, by decide, cd_RingThing_twice, pg_RingThing_twice⟩
theorem hdd_RingThing_add0_ : yX19_add0.cls ≠ "java/lang/invoke/MethodHandle" ∧ yX19_add0.cls ≠ "java/lang/invoke/VarHandle" ∧ (parseMethodDescriptor yX19_add0.desc).map (fun d => d.parameters.length) = some 1 := by decide +kernel
theorem mok_RingThing_add0 : MOK m_RingThing_add0 := ⟨by decide +kernel, by decide, cd_RingThing_add0, pg_RingThing_add0⟩
theorem hdx_LibraryDesk_Maps_found__I_J_0 : ("LibraryDesk$Maps" : String) ≠ "java/lang/invoke/MethodHandle" ∧ ("LibraryDesk$Maps" : String) ≠ "java/lang/invoke/VarHandle" ∧ (parseMethodDescriptor "(I)J").map (fun d => d.parameters.length) = some 1 := by decide +kernel
theorem mok_Maps_found : MOK m_Maps_found := ⟨by decide +kernel, by decide, cd_Maps_found, pg_Maps_found⟩
theorem hdx_LibraryDesk_Maps_use__I_V_0 : ("LibraryDesk$Maps" : String) ≠ "java/lang/invoke/MethodHandle" ∧ ("LibraryDesk$Maps" : String) ≠ "java/lang/invoke/VarHandle" ∧ (parseMethodDescriptor "(I)V").map (fun d => d.parameters.length) = some 1 := by decide +kernel
theorem mok_Maps_use : MOK m_Maps_use := ⟨by decide +kernel, by decide, cd_Maps_use, pg_Maps_use⟩
theorem mok_LinkedThing_use : MOK m_LinkedThing_use := ⟨by decide +kernel, by decide, cd_LinkedThing_use, pg_LinkedThing_use⟩
theorem hdx_LibraryDesk_Maps_setValue__II_V_0 : ("LibraryDesk$Maps" : String) ≠ "java/lang/invoke/MethodHandle" ∧ ("LibraryDesk$Maps" : String) ≠ "java/lang/invoke/VarHandle" ∧ (parseMethodDescriptor "(II)V").map (fun d => d.parameters.length) = some 2 := by decide +kernel
theorem mok_SubThing_setValue : MOK m_SubThing_setValue := ⟨by decide +kernel, by decide, cd_SubThing_setValue, pg_SubThing_setValue⟩
theorem mok_TreeThing_setValue : MOK m_TreeThing_setValue := ⟨by decide +kernel, by decide, cd_TreeThing_setValue, pg_TreeThing_setValue⟩
theorem mok_LinkedThing_setValue : MOK m_LinkedThing_setValue := ⟨by decide +kernel, by decide, cd_LinkedThing_setValue, pg_LinkedThing_setValue⟩
theorem mok_HashThing_setValue : MOK m_HashThing_setValue := ⟨by decide +kernel, by decide, cd_HashThing_setValue, pg_HashThing_setValue⟩
theorem hdx_LibraryDesk_Maps_checkRoom__I_V_0 : ("LibraryDesk$Maps" : String) ≠ "java/lang/invoke/MethodHandle" ∧ ("LibraryDesk$Maps" : String) ≠ "java/lang/invoke/VarHandle" ∧ (parseMethodDescriptor "(I)V").map (fun d => d.parameters.length) = some 1 := by decide +kernel
theorem mok_SubThing_checkRoom : MOK m_SubThing_checkRoom := ⟨by decide +kernel, by decide, cd_SubThing_checkRoom, pg_SubThing_checkRoom⟩
theorem mok_TreeThing_checkRoom : MOK m_TreeThing_checkRoom := ⟨by decide +kernel, by decide, cd_TreeThing_checkRoom, pg_TreeThing_checkRoom⟩
theorem mok_LinkedThing_checkRoom : MOK m_LinkedThing_checkRoom := ⟨by decide +kernel, by decide, cd_LinkedThing_checkRoom, pg_LinkedThing_checkRoom⟩
theorem mok_HashThing_checkRoom : MOK m_HashThing_checkRoom := ⟨by decide +kernel, by decide, cd_HashThing_checkRoom, pg_HashThing_checkRoom⟩
theorem hdx_LibraryDesk_Maps_add__II_V_0 : ("LibraryDesk$Maps" : String) ≠ "java/lang/invoke/MethodHandle" ∧ ("LibraryDesk$Maps" : String) ≠ "java/lang/invoke/VarHandle" ∧ (parseMethodDescriptor "(II)V").map (fun d => d.parameters.length) = some 2 := by decide +kernel
theorem mok_SubThing_add : MOK m_SubThing_add := ⟨by decide +kernel, by decide, cd_SubThing_add, pg_SubThing_add⟩
theorem mok_TreeThing_add : MOK m_TreeThing_add := ⟨by decide +kernel, by decide, cd_TreeThing_add, pg_TreeThing_add⟩
theorem mok_LinkedThing_add : MOK m_LinkedThing_add := ⟨by decide +kernel, by decide, cd_LinkedThing_add, pg_LinkedThing_add⟩
theorem mok_HashThing_add : MOK m_HashThing_add := ⟨by decide +kernel, by decide, cd_HashThing_add, pg_HashThing_add⟩
theorem hdx_LibraryDesk_Maps_remove__I_V_0 : ("LibraryDesk$Maps" : String) ≠ "java/lang/invoke/MethodHandle" ∧ ("LibraryDesk$Maps" : String) ≠ "java/lang/invoke/VarHandle" ∧ (parseMethodDescriptor "(I)V").map (fun d => d.parameters.length) = some 1 := by decide +kernel
theorem mok_SubThing_remove : MOK m_SubThing_remove := ⟨by decide +kernel, by decide, cd_SubThing_remove, pg_SubThing_remove⟩
theorem mok_TreeThing_remove : MOK m_TreeThing_remove := ⟨by decide +kernel, by decide, cd_TreeThing_remove, pg_TreeThing_remove⟩
theorem mok_LinkedThing_remove : MOK m_LinkedThing_remove := ⟨by decide +kernel, by decide, cd_LinkedThing_remove, pg_LinkedThing_remove⟩
theorem mok_HashThing_remove : MOK m_HashThing_remove := ⟨by decide +kernel, by decide, cd_HashThing_remove, pg_HashThing_remove⟩
theorem hdx_LibraryDesk_Maps_last___I_0 : ("LibraryDesk$Maps" : String) ≠ "java/lang/invoke/MethodHandle" ∧ ("LibraryDesk$Maps" : String) ≠ "java/lang/invoke/VarHandle" ∧ (parseMethodDescriptor "()I").map (fun d => d.parameters.length) = some 0 := by decide +kernel
theorem mok_SubThing_last : MOK m_SubThing_last := ⟨by decide +kernel, by decide, cd_SubThing_last, pg_SubThing_last⟩
theorem mok_TreeThing_last : MOK m_TreeThing_last := ⟨by decide +kernel, by decide, cd_TreeThing_last, pg_TreeThing_last⟩
theorem mok_LinkedThing_last : MOK m_LinkedThing_last := ⟨by decide +kernel, by decide, cd_LinkedThing_last, pg_LinkedThing_last⟩
theorem mok_HashThing_last : MOK m_HashThing_last := ⟨by decide +kernel, by decide, cd_HashThing_last, pg_HashThing_last⟩
theorem hdd_Maps_init_ : yX20_init.cls ≠ "java/lang/invoke/MethodHandle" ∧ yX20_init.cls ≠ "java/lang/invoke/VarHandle" ∧ (parseMethodDescriptor yX20_init.desc).map (fun d => d.parameters.length) = some 1 := by decide +kernel
theorem mok_Maps_init : MOK m_Maps_init := ⟨by decide +kernel, by decide, cd_Maps_init, pg_Maps_init⟩
theorem clr_32 : clT[clI 32]? = some (RX22, TX22, 6) := rfl
theorem nf_HashThing_9 : NF "LibraryDesk$HashThing" 9 32 6 := ⟨RX22, TX22, tyX22, by decide, clr_32, in_X22, tyX22_ok, q1441, q1442, q538, by decide +kernel⟩
theorem pf_HashThing_init_12_31 : PF m_HashThing_init "LibraryDesk$HashThing" "LibraryDesk$HashThing" "LibraryDesk" 12 2 283 (.object "LibraryDesk$Slots") 31 := ⟨RX21, TX21, 11, 2, tyX21, by decide, clr_31, in_X21, tyX21_ok, nmX21, by decide, rfl, nd_31, Or.inr (Or.inr ⟨q1477, rfl, rfl, rfl⟩), rfl, by decide +kernel⟩
theorem hdd_Slots_init_ : yX22_init.cls ≠ "java/lang/invoke/MethodHandle" ∧ yX22_init.cls ≠ "java/lang/invoke/VarHandle" ∧ (parseMethodDescriptor yX22_init.desc).map (fun d => d.parameters.length) = some 1 := by decide +kernel
theorem mok_Slots_init : MOK m_Slots_init := ⟨by decide +kernel, by decide, cd_Slots_init, pg_Slots_init⟩
theorem pf_HashThing_init_18_31 : PF m_HashThing_init "LibraryDesk$HashThing" "LibraryDesk$HashThing" "LibraryDesk" 18 2 284 (.array .int) 31 := ⟨RX21, TX21, 11, 3, tyX21, by decide, clr_31, in_X21, tyX21_ok, nmX21, by decide, rfl, nd_31, Or.inr (Or.inr ⟨q1478, rfl, rfl, rfl⟩), rfl, by decide +kernel⟩
theorem pf_HashThing_init_22_31 : PF m_HashThing_init "LibraryDesk$HashThing" "LibraryDesk$HashThing" "LibraryDesk" 22 2 285 (.array .int) 31 := ⟨RX21, TX21, 11, 4, tyX21, by decide, clr_31, in_X21, tyX21_ok, nmX21, by decide, rfl, nd_31, Or.inr (Or.inr ⟨q1479, rfl, rfl, rfl⟩), rfl, by decide +kernel⟩
theorem pf_HashThing_init_25_31 : PF m_HashThing_init "LibraryDesk$HashThing" "LibraryDesk$HashThing" "LibraryDesk" 25 2 286 (.array .int) 31 := ⟨RX21, TX21, 11, 5, tyX21, by decide, clr_31, in_X21, tyX21_ok, nmX21, by decide, rfl, nd_31, Or.inr (Or.inr ⟨q1480, rfl, rfl, rfl⟩), rfl, by decide +kernel⟩
theorem pf_HashThing_init_28_31 : PF m_HashThing_init "LibraryDesk$HashThing" "LibraryDesk$HashThing" "LibraryDesk" 28 2 287 (.array .boolean) 31 := ⟨RX21, TX21, 11, 6, tyX21, by decide, clr_31, in_X21, tyX21_ok, nmX21, by decide, rfl, nd_31, Or.inr (Or.inr ⟨q1481, rfl, rfl, rfl⟩), rfl, by decide +kernel⟩
theorem hdd_Slots_clear_ : yX22_clear.cls ≠ "java/lang/invoke/MethodHandle" ∧ yX22_clear.cls ≠ "java/lang/invoke/VarHandle" ∧ (parseMethodDescriptor yX22_clear.desc).map (fun d => d.parameters.length) = some 0 := by decide +kernel
theorem mok_Slots_clear : MOK m_Slots_clear := ⟨by decide +kernel, by decide, cd_Slots_clear, pg_Slots_clear⟩
theorem gf_HashThing_12_31 : GF "LibraryDesk$HashThing" "LibraryDesk$HashThing" "LibraryDesk" 12 2 283 31 := ⟨RX21, TX21, 11, 2, by decide, clr_31, in_X21, by decide, rfl, Or.inl q1477, rfl⟩
theorem pf_HashThing_36_31 {m : Nat} : PF m "LibraryDesk$HashThing" "LibraryDesk$HashThing" "LibraryDesk" 36 0 288 .int 31 := ⟨RX21, TX21, 11, 7, tyX21, by decide, clr_31, in_X21, tyX21_ok, nmX21, by decide, rfl, nd_31, Or.inl ⟨q1482, rfl⟩, rfl, by decide +kernel⟩
theorem pf_HashThing_43_31 {m : Nat} : PF m "LibraryDesk$HashThing" "LibraryDesk$HashThing" "LibraryDesk" 43 0 290 .int 31 := ⟨RX21, TX21, 11, 9, tyX21, by decide, clr_31, in_X21, tyX21_ok, nmX21, by decide, rfl, nd_31, Or.inl ⟨q1485, rfl⟩, rfl, by decide +kernel⟩
theorem pf_HashThing_40_31 {m : Nat} : PF m "LibraryDesk$HashThing" "LibraryDesk$HashThing" "LibraryDesk" 40 0 289 .int 31 := ⟨RX21, TX21, 11, 8, tyX21, by decide, clr_31, in_X21, tyX21_ok, nmX21, by decide, rfl, nd_31, Or.inl ⟨q1484, rfl⟩, rfl, by decide +kernel⟩
theorem pf_HashThing_46_31 {m : Nat} : PF m "LibraryDesk$HashThing" "LibraryDesk$HashThing" "LibraryDesk" 46 0 291 .int 31 := ⟨RX21, TX21, 11, 10, tyX21, by decide, clr_31, in_X21, tyX21_ok, nmX21, by decide, rfl, nd_31, Or.inl ⟨q1486, rfl⟩, rfl, by decide +kernel⟩
theorem gf_HashThing_36_31 : GF "LibraryDesk$HashThing" "LibraryDesk$HashThing" "LibraryDesk" 36 0 288 31 := ⟨RX21, TX21, 11, 7, by decide, clr_31, in_X21, by decide, rfl, Or.inl q1482, rfl⟩
theorem gf_HashThing_18_31 : GF "LibraryDesk$HashThing" "LibraryDesk$HashThing" "LibraryDesk" 18 2 284 31 := ⟨RX21, TX21, 11, 3, by decide, clr_31, in_X21, by decide, rfl, Or.inl q1478, rfl⟩
theorem hdd_HashThing_bin_ : yX21_bin.cls ≠ "java/lang/invoke/MethodHandle" ∧ yX21_bin.cls ≠ "java/lang/invoke/VarHandle" ∧ (parseMethodDescriptor yX21_bin.desc).map (fun d => d.parameters.length) = some 1 := by decide +kernel
theorem mok_HashThing_bin : MOK m_HashThing_bin := ⟨by decide +kernel, by decide, cd_HashThing_bin, pg_HashThing_bin⟩
theorem gf_HashThing_61_32 : GF "LibraryDesk$HashThing" "LibraryDesk$Slots" "LibraryDesk" 61 2 292 32 := ⟨RX22, TX22, 6, 0, by decide, clr_32, in_X22, by decide, rfl, Or.inr nw1450, rfl⟩
theorem gf_HashThing_64_32 : GF "LibraryDesk$HashThing" "LibraryDesk$Slots" "LibraryDesk" 64 2 294 32 := ⟨RX22, TX22, 6, 2, by decide, clr_32, in_X22, by decide, rfl, Or.inr nw1457, rfl⟩
theorem gf_HashThing_43_31 : GF "LibraryDesk$HashThing" "LibraryDesk$HashThing" "LibraryDesk" 43 0 290 31 := ⟨RX21, TX21, 11, 9, by decide, clr_31, in_X21, by decide, rfl, Or.inl q1485, rfl⟩
theorem gf_HashThing_74_32 : GF "LibraryDesk$HashThing" "LibraryDesk$Slots" "LibraryDesk" 74 2 293 32 := ⟨RX22, TX22, 6, 1, by decide, clr_32, in_X22, by decide, rfl, Or.inr nw1453, rfl⟩
theorem gf_HashThing_54_32 : GF "LibraryDesk$HashThing" "LibraryDesk$Slots" "LibraryDesk" 54 0 297 32 := ⟨RX22, TX22, 6, 5, by decide, clr_32, in_X22, by decide, rfl, Or.inr nw1461, rfl⟩
theorem gf_HashThing_40_31 : GF "LibraryDesk$HashThing" "LibraryDesk$HashThing" "LibraryDesk" 40 0 289 31 := ⟨RX21, TX21, 11, 8, by decide, clr_31, in_X21, by decide, rfl, Or.inl q1484, rfl⟩
theorem hdd_HashThing_empty_ : yX21_empty.cls ≠ "java/lang/invoke/MethodHandle" ∧ yX21_empty.cls ≠ "java/lang/invoke/VarHandle" ∧ (parseMethodDescriptor yX21_empty.desc).map (fun d => d.parameters.length) = some 2 := by decide +kernel
theorem mok_HashThing_empty : MOK m_HashThing_empty := ⟨by decide +kernel, by decide, cd_HashThing_empty, pg_HashThing_empty⟩
theorem gf_HashThing_25_31 : GF "LibraryDesk$HashThing" "LibraryDesk$HashThing" "LibraryDesk" 25 2 286 31 := ⟨RX21, TX21, 11, 5, by decide, clr_31, in_X21, by decide, rfl, Or.inl q1480, rfl⟩
theorem hdd_HashThing_append_ : yX21_append.cls ≠ "java/lang/invoke/MethodHandle" ∧ yX21_append.cls ≠ "java/lang/invoke/VarHandle" ∧ (parseMethodDescriptor yX21_append.desc).map (fun d => d.parameters.length) = some 2 := by decide +kernel
theorem mok_HashThing_append : MOK m_HashThing_append := ⟨by decide +kernel, by decide, cd_HashThing_append, pg_HashThing_append⟩
theorem hdd_Slots_take_ : yX22_take.cls ≠ "java/lang/invoke/MethodHandle" ∧ yX22_take.cls ≠ "java/lang/invoke/VarHandle" ∧ (parseMethodDescriptor yX22_take.desc).map (fun d => d.parameters.length) = some 2 := by decide +kernel
theorem mok_Slots_take : MOK m_Slots_take := ⟨by decide +kernel, by decide, cd_Slots_take, pg_Slots_take⟩
theorem gf_HashThing_46_31 : GF "LibraryDesk$HashThing" "LibraryDesk$HashThing" "LibraryDesk" 46 0 291 31 := ⟨RX21, TX21, 11, 10, by decide, clr_31, in_X21, by decide, rfl, Or.inl q1486, rfl⟩
theorem hdd_HashThing_twice_ : yX21_twice.cls ≠ "java/lang/invoke/MethodHandle" ∧ yX21_twice.cls ≠ "java/lang/invoke/VarHandle" ∧ (parseMethodDescriptor yX21_twice.desc).map (fun d => d.parameters.length) = some 0 := by decide +kernel
theorem mok_HashThing_twice : MOK m_HashThing_twice := ⟨by decide +kernel, by decide, cd_HashThing_twice, pg_HashThing_twice⟩
theorem gf_HashThing_28_31 : GF "LibraryDesk$HashThing" "LibraryDesk$HashThing" "LibraryDesk" 28 2 287 31 := ⟨RX21, TX21, 11, 6, by decide, clr_31, in_X21, by decide, rfl, Or.inl q1481, rfl⟩
theorem gf_HashThing_22_31 : GF "LibraryDesk$HashThing" "LibraryDesk$HashThing" "LibraryDesk" 22 2 285 31 := ⟨RX21, TX21, 11, 4, by decide, clr_31, in_X21, by decide, rfl, Or.inl q1479, rfl⟩
theorem hdd_Slots_give_ : yX22_give.cls ≠ "java/lang/invoke/MethodHandle" ∧ yX22_give.cls ≠ "java/lang/invoke/VarHandle" ∧ (parseMethodDescriptor yX22_give.desc).map (fun d => d.parameters.length) = some 1 := by decide +kernel
theorem mok_Slots_give : MOK m_Slots_give := ⟨by decide +kernel, by decide, cd_Slots_give, pg_Slots_give⟩
theorem hdd_HashThing_from_ : yX21_from.cls ≠ "java/lang/invoke/MethodHandle" ∧ yX21_from.cls ≠ "java/lang/invoke/VarHandle" ∧ (parseMethodDescriptor yX21_from.desc).map (fun d => d.parameters.length) = some 1 := by decide +kernel
theorem mok_HashThing_from : MOK m_HashThing_from := ⟨by decide +kernel, by decide, cd_HashThing_from, pg_HashThing_from⟩
theorem ef_HashThing_70 : EXF "LibraryDesk$HashThing" "java/lang/UnsupportedOperationException" ["java/lang/RuntimeException", "java/lang/Exception"] 70 72 66 := ⟨by decide, rfl, ⟨TEx, rfl⟩, by decide, by decide +kernel, by decide +kernel, q2696, q555, List.forall_mem_append.mpr ⟨List.forall_mem_append.mpr ⟨thr_A, List.forall_mem_cons.mpr ⟨fun _ => Or.inl q2182, List.forall_mem_cons.mpr ⟨fun _ => Or.inl q2183, List.forall_mem_cons.mpr ⟨fun _ => Or.inl q2184, List.forall_mem_cons.mpr ⟨fun _ => Or.inl q1261, List.forall_mem_cons.mpr ⟨fun _ => Or.inr ⟨nw1220, rfl⟩, List.forall_mem_cons.mpr ⟨fun _ => Or.inl q1261, List.forall_mem_cons.mpr ⟨fun _ => Or.inl q1262, List.forall_mem_cons.mpr ⟨fun _ => Or.inl q1263, List.forall_mem_cons.mpr ⟨fun _ => Or.inl q1264, List.forall_mem_cons.mpr ⟨fun _ => Or.inr ⟨nw1222, rfl⟩, List.forall_mem_cons.mpr ⟨fun _ => Or.inl q1264, List.forall_mem_cons.mpr ⟨fun _ => Or.inl q1265, List.forall_mem_cons.mpr ⟨fun _ => Or.inl q1266, List.forall_mem_cons.mpr ⟨fun _ => Or.inl q1234, List.forall_mem_cons.mpr ⟨fun _ => Or.inr ⟨nw1224, rfl⟩, fun _ h => absurd h List.not_mem_nil⟩⟩⟩⟩⟩⟩⟩⟩⟩⟩⟩⟩⟩⟩⟩⟩, List.forall_mem_cons.mpr ⟨fun _ => Or.inl q2697, List.forall_mem_cons.mpr ⟨fun _ => Or.inl q2173, List.forall_mem_cons.mpr ⟨fun _ => Or.inr ⟨nw2174, rfl⟩, List.forall_mem_cons.mpr ⟨fun _ => Or.inl q2175, List.forall_mem_cons.mpr ⟨fun _ => Or.inl q1191, List.forall_mem_cons.mpr ⟨fun _ => Or.inl q2176, List.forall_mem_cons.mpr ⟨fun _ => Or.inl q2177, List.forall_mem_cons.mpr ⟨fun _ => Or.inl q2178, List.forall_mem_cons.mpr ⟨fun _ => Or.inl q2179, List.forall_mem_cons.mpr ⟨fun h => absurd h (by decide), List.forall_mem_cons.mpr ⟨fun h => absurd h (by decide), List.forall_mem_cons.mpr ⟨fun _ => Or.inl q1232, List.forall_mem_cons.mpr ⟨fun _ => Or.inl q1231, List.forall_mem_cons.mpr ⟨fun _ => Or.inl q2180, fun _ h => absurd h List.not_mem_nil⟩⟩⟩⟩⟩⟩⟩⟩⟩⟩⟩⟩⟩⟩⟩⟩
theorem nd_32 : va_nd ((flT 32).map (·.2)) = true := by decide +kernel
theorem pf_Slots_init_7_32 : PF m_Slots_init "LibraryDesk$Slots" "LibraryDesk$Slots" "LibraryDesk" 7 2 292 (.array .int) 32 := ⟨RX22, TX22, 6, 0, tyX22, by decide, clr_32, in_X22, tyX22_ok, nmX22, by decide, rfl, nd_32, Or.inr (Or.inr ⟨q1447, rfl, rfl, rfl⟩), rfl, by decide +kernel⟩
theorem pf_Slots_init_13_32 : PF m_Slots_init "LibraryDesk$Slots" "LibraryDesk$Slots" "LibraryDesk" 13 2 293 (.array .int) 32 := ⟨RX22, TX22, 6, 1, tyX22, by decide, clr_32, in_X22, tyX22_ok, nmX22, by decide, rfl, nd_32, Or.inr (Or.inr ⟨q1451, rfl, rfl, rfl⟩), rfl, by decide +kernel⟩
theorem pf_Slots_init_16_32 : PF m_Slots_init "LibraryDesk$Slots" "LibraryDesk$Slots" "LibraryDesk" 16 2 294 (.array .int) 32 := ⟨RX22, TX22, 6, 2, tyX22, by decide, clr_32, in_X22, tyX22_ok, nmX22, by decide, rfl, nd_32, Or.inr (Or.inr ⟨q1455, rfl, rfl, rfl⟩), rfl, by decide +kernel⟩
theorem pf_Slots_19_32 {m : Nat} : PF m "LibraryDesk$Slots" "LibraryDesk$Slots" "LibraryDesk" 19 0 295 .int 32 := ⟨RX22, TX22, 6, 3, tyX22, by decide, clr_32, in_X22, tyX22_ok, nmX22, by decide, rfl, nd_32, Or.inl ⟨q1458, rfl⟩, rfl, by decide +kernel⟩
theorem pf_Slots_26_32 {m : Nat} : PF m "LibraryDesk$Slots" "LibraryDesk$Slots" "LibraryDesk" 26 0 297 .int 32 := ⟨RX22, TX22, 6, 5, tyX22, by decide, clr_32, in_X22, tyX22_ok, nmX22, by decide, rfl, nd_32, Or.inl ⟨q1460, rfl⟩, rfl, by decide +kernel⟩
theorem pf_Slots_23_32 {m : Nat} : PF m "LibraryDesk$Slots" "LibraryDesk$Slots" "LibraryDesk" 23 0 296 .int 32 := ⟨RX22, TX22, 6, 4, tyX22, by decide, clr_32, in_X22, tyX22_ok, nmX22, by decide, rfl, nd_32, Or.inl ⟨q1459, rfl⟩, rfl, by decide +kernel⟩
theorem gf_Slots_19_32 : GF "LibraryDesk$Slots" "LibraryDesk$Slots" "LibraryDesk" 19 0 295 32 := ⟨RX22, TX22, 6, 3, by decide, clr_32, in_X22, by decide, rfl, Or.inl q1458, rfl⟩
theorem gf_Slots_16_32 : GF "LibraryDesk$Slots" "LibraryDesk$Slots" "LibraryDesk" 16 2 294 32 := ⟨RX22, TX22, 6, 2, by decide, clr_32, in_X22, by decide, rfl, Or.inl q1455, rfl⟩
theorem gf_Slots_23_32 : GF "LibraryDesk$Slots" "LibraryDesk$Slots" "LibraryDesk" 23 0 296 32 := ⟨RX22, TX22, 6, 4, by decide, clr_32, in_X22, by decide, rfl, Or.inl q1459, rfl⟩
theorem gf_Slots_7_32 : GF "LibraryDesk$Slots" "LibraryDesk$Slots" "LibraryDesk" 7 2 292 32 := ⟨RX22, TX22, 6, 0, by decide, clr_32, in_X22, by decide, rfl, Or.inl q1447, rfl⟩
theorem gf_Slots_13_32 : GF "LibraryDesk$Slots" "LibraryDesk$Slots" "LibraryDesk" 13 2 293 32 := ⟨RX22, TX22, 6, 1, by decide, clr_32, in_X22, by decide, rfl, Or.inl q1451, rfl⟩
theorem gf_Slots_26_32 : GF "LibraryDesk$Slots" "LibraryDesk$Slots" "LibraryDesk" 26 0 297 32 := ⟨RX22, TX22, 6, 5, by decide, clr_32, in_X22, by decide, rfl, Or.inl q1460, rfl⟩
theorem nf_LinkedThing_9 : NF "LibraryDesk$LinkedThing" 9 32 6 := ⟨RX22, TX22, tyX22, by decide, clr_32, in_X22, tyX22_ok, q1514, q1442, q538, by decide +kernel⟩
theorem pf_LinkedThing_init_12_33 : PF m_LinkedThing_init "LibraryDesk$LinkedThing" "LibraryDesk$LinkedThing" "LibraryDesk" 12 2 298 (.object "LibraryDesk$Slots") 33 := ⟨RX23, TX23, 11, 2, tyX23, by decide, clr_33, in_X23, tyX23_ok, nmX23, by decide, rfl, nd_33, Or.inr (Or.inr ⟨q1516, rfl, rfl, rfl⟩), rfl, by decide +kernel⟩
theorem pf_LinkedThing_init_18_33 : PF m_LinkedThing_init "LibraryDesk$LinkedThing" "LibraryDesk$LinkedThing" "LibraryDesk" 18 2 299 (.array .int) 33 := ⟨RX23, TX23, 11, 3, tyX23, by decide, clr_33, in_X23, tyX23_ok, nmX23, by decide, rfl, nd_33, Or.inr (Or.inr ⟨q1517, rfl, rfl, rfl⟩), rfl, by decide +kernel⟩
theorem pf_LinkedThing_init_22_33 : PF m_LinkedThing_init "LibraryDesk$LinkedThing" "LibraryDesk$LinkedThing" "LibraryDesk" 22 2 300 (.array .int) 33 := ⟨RX23, TX23, 11, 4, tyX23, by decide, clr_33, in_X23, tyX23_ok, nmX23, by decide, rfl, nd_33, Or.inr (Or.inr ⟨q1518, rfl, rfl, rfl⟩), rfl, by decide +kernel⟩
theorem pf_LinkedThing_init_25_33 : PF m_LinkedThing_init "LibraryDesk$LinkedThing" "LibraryDesk$LinkedThing" "LibraryDesk" 25 2 301 (.array .int) 33 := ⟨RX23, TX23, 11, 5, tyX23, by decide, clr_33, in_X23, tyX23_ok, nmX23, by decide, rfl, nd_33, Or.inr (Or.inr ⟨q1519, rfl, rfl, rfl⟩), rfl, by decide +kernel⟩
theorem hdd_LinkedThing_empty_ : yX23_empty.cls ≠ "java/lang/invoke/MethodHandle" ∧ yX23_empty.cls ≠ "java/lang/invoke/VarHandle" ∧ (parseMethodDescriptor yX23_empty.desc).map (fun d => d.parameters.length) = some 0 := by decide +kernel
theorem mok_LinkedThing_empty : MOK m_LinkedThing_empty := ⟨by decide +kernel, by decide, cd_LinkedThing_empty, pg_LinkedThing_empty⟩
theorem pf_LinkedThing_32_33 {m : Nat} : PF m "LibraryDesk$LinkedThing" "LibraryDesk$LinkedThing" "LibraryDesk" 32 0 304 .int 33 := ⟨RX23, TX23, 11, 8, tyX23, by decide, clr_33, in_X23, tyX23_ok, nmX23, by decide, rfl, nd_33, Or.inl ⟨q1522, rfl⟩, rfl, by decide +kernel⟩
theorem pf_LinkedThing_36_33 {m : Nat} : PF m "LibraryDesk$LinkedThing" "LibraryDesk$LinkedThing" "LibraryDesk" 36 0 305 .boolean 33 := ⟨RX23, TX23, 11, 9, tyX23, by decide, clr_33, in_X23, tyX23_ok, nmX23, by decide, rfl, nd_33, Or.inl ⟨q1524, rfl⟩, rfl, by decide +kernel⟩
theorem pf_LinkedThing_40_33 {m : Nat} : PF m "LibraryDesk$LinkedThing" "LibraryDesk$LinkedThing" "LibraryDesk" 40 0 306 .int 33 := ⟨RX23, TX23, 11, 10, tyX23, by decide, clr_33, in_X23, tyX23_ok, nmX23, by decide, rfl, nd_33, Or.inl ⟨q1525, rfl⟩, rfl, by decide +kernel⟩
theorem gf_LinkedThing_12_33 : GF "LibraryDesk$LinkedThing" "LibraryDesk$LinkedThing" "LibraryDesk" 12 2 298 33 := ⟨RX23, TX23, 11, 2, by decide, clr_33, in_X23, by decide, rfl, Or.inl q1516, rfl⟩
theorem gf_LinkedThing_18_33 : GF "LibraryDesk$LinkedThing" "LibraryDesk$LinkedThing" "LibraryDesk" 18 2 299 33 := ⟨RX23, TX23, 11, 3, by decide, clr_33, in_X23, by decide, rfl, Or.inl q1517, rfl⟩
theorem pf_LinkedThing_46_33 {m : Nat} : PF m "LibraryDesk$LinkedThing" "LibraryDesk$LinkedThing" "LibraryDesk" 46 0 302 .int 33 := ⟨RX23, TX23, 11, 6, tyX23, by decide, clr_33, in_X23, tyX23_ok, nmX23, by decide, rfl, nd_33, Or.inl ⟨q1520, rfl⟩, rfl, by decide +kernel⟩
theorem pf_LinkedThing_49_33 {m : Nat} : PF m "LibraryDesk$LinkedThing" "LibraryDesk$LinkedThing" "LibraryDesk" 49 0 303 .int 33 := ⟨RX23, TX23, 11, 7, tyX23, by decide, clr_33, in_X23, tyX23_ok, nmX23, by decide, rfl, nd_33, Or.inl ⟨q1521, rfl⟩, rfl, by decide +kernel⟩
theorem hdd_LinkedThing_bin_ : yX23_bin.cls ≠ "java/lang/invoke/MethodHandle" ∧ yX23_bin.cls ≠ "java/lang/invoke/VarHandle" ∧ (parseMethodDescriptor yX23_bin.desc).map (fun d => d.parameters.length) = some 1 := by decide +kernel
theorem mok_LinkedThing_bin : MOK m_LinkedThing_bin := ⟨by decide +kernel, by decide, cd_LinkedThing_bin, pg_LinkedThing_bin⟩
theorem gf_LinkedThing_60_32 : GF "LibraryDesk$LinkedThing" "LibraryDesk$Slots" "LibraryDesk" 60 2 292 32 := ⟨RX22, TX22, 6, 0, by decide, clr_32, in_X22, by decide, rfl, Or.inr nw1448, rfl⟩
theorem gf_LinkedThing_63_32 : GF "LibraryDesk$LinkedThing" "LibraryDesk$Slots" "LibraryDesk" 63 2 294 32 := ⟨RX22, TX22, 6, 2, by decide, clr_32, in_X22, by decide, rfl, Or.inr nw1456, rfl⟩
theorem gf_LinkedThing_66_32 : GF "LibraryDesk$LinkedThing" "LibraryDesk$Slots" "LibraryDesk" 66 2 293 32 := ⟨RX22, TX22, 6, 1, by decide, clr_32, in_X22, by decide, rfl, Or.inr nw1452, rfl⟩
theorem gf_LinkedThing_36_33 : GF "LibraryDesk$LinkedThing" "LibraryDesk$LinkedThing" "LibraryDesk" 36 0 305 33 := ⟨RX23, TX23, 11, 9, by decide, clr_33, in_X23, by decide, rfl, Or.inl q1524, rfl⟩
theorem gf_LinkedThing_49_33 : GF "LibraryDesk$LinkedThing" "LibraryDesk$LinkedThing" "LibraryDesk" 49 0 303 33 := ⟨RX23, TX23, 11, 7, by decide, clr_33, in_X23, by decide, rfl, Or.inl q1521, rfl⟩
theorem hdd_LinkedThing_link_ : yX23_link.cls ≠ "java/lang/invoke/MethodHandle" ∧ yX23_link.cls ≠ "java/lang/invoke/VarHandle" ∧ (parseMethodDescriptor yX23_link.desc).map (fun d => d.parameters.length) = some 1 := by decide +kernel
theorem mok_LinkedThing_link : MOK m_LinkedThing_link := ⟨by decide +kernel, by decide, cd_LinkedThing_link, pg_LinkedThing_link⟩
theorem hdd_LinkedThing_unlink_ : yX23_unlink.cls ≠ "java/lang/invoke/MethodHandle" ∧ yX23_unlink.cls ≠ "java/lang/invoke/VarHandle" ∧ (parseMethodDescriptor yX23_unlink.desc).map (fun d => d.parameters.length) = some 1 := by decide +kernel
theorem mok_LinkedThing_unlink : MOK m_LinkedThing_unlink := ⟨by decide +kernel, by decide, cd_LinkedThing_unlink, pg_LinkedThing_unlink⟩
theorem gf_LinkedThing_40_33 : GF "LibraryDesk$LinkedThing" "LibraryDesk$LinkedThing" "LibraryDesk" 40 0 306 33 := ⟨RX23, TX23, 11, 10, by decide, clr_33, in_X23, by decide, rfl, Or.inl q1525, rfl⟩
theorem gf_LinkedThing_22_33 : GF "LibraryDesk$LinkedThing" "LibraryDesk$LinkedThing" "LibraryDesk" 22 2 300 33 := ⟨RX23, TX23, 11, 4, by decide, clr_33, in_X23, by decide, rfl, Or.inl q1518, rfl⟩
theorem gf_LinkedThing_25_33 : GF "LibraryDesk$LinkedThing" "LibraryDesk$LinkedThing" "LibraryDesk" 25 2 301 33 := ⟨RX23, TX23, 11, 5, by decide, clr_33, in_X23, by decide, rfl, Or.inl q1519, rfl⟩
theorem gf_LinkedThing_32_33 : GF "LibraryDesk$LinkedThing" "LibraryDesk$LinkedThing" "LibraryDesk" 32 0 304 33 := ⟨RX23, TX23, 11, 8, by decide, clr_33, in_X23, by decide, rfl, Or.inl q1522, rfl⟩
theorem gf_LinkedThing_53_32 : GF "LibraryDesk$LinkedThing" "LibraryDesk$Slots" "LibraryDesk" 53 0 297 32 := ⟨RX22, TX22, 6, 5, by decide, clr_32, in_X22, by decide, rfl, Or.inr nw1463, rfl⟩
theorem hdd_LinkedThing_remove_ : yX23_remove.cls ≠ "java/lang/invoke/MethodHandle" ∧ yX23_remove.cls ≠ "java/lang/invoke/VarHandle" ∧ (parseMethodDescriptor yX23_remove.desc).map (fun d => d.parameters.length) = some 1 := by decide +kernel
theorem gf_LinkedThing_46_33 : GF "LibraryDesk$LinkedThing" "LibraryDesk$LinkedThing" "LibraryDesk" 46 0 302 33 := ⟨RX23, TX23, 11, 6, by decide, clr_33, in_X23, by decide, rfl, Or.inl q1520, rfl⟩
theorem nf_TreeThing_9 : NF "LibraryDesk$TreeThing" 9 32 6 := ⟨RX22, TX22, tyX22, by decide, clr_32, in_X22, tyX22_ok, q1553, q1442, q538, by decide +kernel⟩
theorem pf_TreeThing_init_12_34 : PF m_TreeThing_init "LibraryDesk$TreeThing" "LibraryDesk$TreeThing" "LibraryDesk" 12 2 307 (.object "LibraryDesk$Slots") 34 := ⟨RX24, TX24, 10, 2, tyX24, by decide, clr_34, in_X24, tyX24_ok, nmX24, by decide, rfl, nd_34, Or.inr (Or.inr ⟨q1555, rfl, rfl, rfl⟩), rfl, by decide +kernel⟩
theorem pf_TreeThing_init_18_34 : PF m_TreeThing_init "LibraryDesk$TreeThing" "LibraryDesk$TreeThing" "LibraryDesk" 18 2 308 (.array .int) 34 := ⟨RX24, TX24, 10, 3, tyX24, by decide, clr_34, in_X24, tyX24_ok, nmX24, by decide, rfl, nd_34, Or.inr (Or.inr ⟨q1556, rfl, rfl, rfl⟩), rfl, by decide +kernel⟩
theorem pf_TreeThing_init_22_34 : PF m_TreeThing_init "LibraryDesk$TreeThing" "LibraryDesk$TreeThing" "LibraryDesk" 22 2 309 (.array .int) 34 := ⟨RX24, TX24, 10, 4, tyX24, by decide, clr_34, in_X24, tyX24_ok, nmX24, by decide, rfl, nd_34, Or.inr (Or.inr ⟨q1557, rfl, rfl, rfl⟩), rfl, by decide +kernel⟩
theorem pf_TreeThing_init_25_34 : PF m_TreeThing_init "LibraryDesk$TreeThing" "LibraryDesk$TreeThing" "LibraryDesk" 25 2 310 (.array .int) 34 := ⟨RX24, TX24, 10, 5, tyX24, by decide, clr_34, in_X24, tyX24_ok, nmX24, by decide, rfl, nd_34, Or.inr (Or.inr ⟨q1558, rfl, rfl, rfl⟩), rfl, by decide +kernel⟩
theorem pf_TreeThing_init_28_34 : PF m_TreeThing_init "LibraryDesk$TreeThing" "LibraryDesk$TreeThing" "LibraryDesk" 28 2 311 (.array .boolean) 34 := ⟨RX24, TX24, 10, 6, tyX24, by decide, clr_34, in_X24, tyX24_ok, nmX24, by decide, rfl, nd_34, Or.inr (Or.inr ⟨q1559, rfl, rfl, rfl⟩), rfl, by decide +kernel⟩
theorem gf_TreeThing_12_34 : GF "LibraryDesk$TreeThing" "LibraryDesk$TreeThing" "LibraryDesk" 12 2 307 34 := ⟨RX24, TX24, 10, 2, by decide, clr_34, in_X24, by decide, rfl, Or.inl q1555, rfl⟩
theorem gf_TreeThing_28_34 : GF "LibraryDesk$TreeThing" "LibraryDesk$TreeThing" "LibraryDesk" 28 2 311 34 := ⟨RX24, TX24, 10, 6, by decide, clr_34, in_X24, by decide, rfl, Or.inl q1559, rfl⟩
theorem pf_TreeThing_36_34 {m : Nat} : PF m "LibraryDesk$TreeThing" "LibraryDesk$TreeThing" "LibraryDesk" 36 0 312 .int 34 := ⟨RX24, TX24, 10, 7, tyX24, by decide, clr_34, in_X24, tyX24_ok, nmX24, by decide, rfl, nd_34, Or.inl ⟨q1560, rfl⟩, rfl, by decide +kernel⟩
theorem pf_TreeThing_43_34 {m : Nat} : PF m "LibraryDesk$TreeThing" "LibraryDesk$TreeThing" "LibraryDesk" 43 0 314 .int 34 := ⟨RX24, TX24, 10, 9, tyX24, by decide, clr_34, in_X24, tyX24_ok, nmX24, by decide, rfl, nd_34, Or.inl ⟨q1562, rfl⟩, rfl, by decide +kernel⟩
theorem pf_TreeThing_40_34 {m : Nat} : PF m "LibraryDesk$TreeThing" "LibraryDesk$TreeThing" "LibraryDesk" 40 0 313 .int 34 := ⟨RX24, TX24, 10, 8, tyX24, by decide, clr_34, in_X24, tyX24_ok, nmX24, by decide, rfl, nd_34, Or.inl ⟨q1561, rfl⟩, rfl, by decide +kernel⟩
theorem gf_TreeThing_36_34 : GF "LibraryDesk$TreeThing" "LibraryDesk$TreeThing" "LibraryDesk" 36 0 312 34 := ⟨RX24, TX24, 10, 7, by decide, clr_34, in_X24, by decide, rfl, Or.inl q1560, rfl⟩
theorem gf_TreeThing_55_32 : GF "LibraryDesk$TreeThing" "LibraryDesk$Slots" "LibraryDesk" 55 2 292 32 := ⟨RX22, TX22, 6, 0, by decide, clr_32, in_X22, by decide, rfl, Or.inr nw1449, rfl⟩
theorem hdd_TreeThing_compare_ : yX24_compare.cls ≠ "java/lang/invoke/MethodHandle" ∧ yX24_compare.cls ≠ "java/lang/invoke/VarHandle" ∧ (parseMethodDescriptor yX24_compare.desc).map (fun d => d.parameters.length) = some 2 := by decide +kernel
theorem mok_TreeThing_compare : MOK m_TreeThing_compare := ⟨by decide +kernel, by decide, cd_TreeThing_compare, pg_TreeThing_compare⟩
theorem gf_TreeThing_18_34 : GF "LibraryDesk$TreeThing" "LibraryDesk$TreeThing" "LibraryDesk" 18 2 308 34 := ⟨RX24, TX24, 10, 3, by decide, clr_34, in_X24, by decide, rfl, Or.inl q1556, rfl⟩
theorem gf_TreeThing_22_34 : GF "LibraryDesk$TreeThing" "LibraryDesk$TreeThing" "LibraryDesk" 22 2 309 34 := ⟨RX24, TX24, 10, 4, by decide, clr_34, in_X24, by decide, rfl, Or.inl q1557, rfl⟩
theorem gf_TreeThing_40_34 : GF "LibraryDesk$TreeThing" "LibraryDesk$TreeThing" "LibraryDesk" 40 0 313 34 := ⟨RX24, TX24, 10, 8, by decide, clr_34, in_X24, by decide, rfl, Or.inl q1561, rfl⟩
theorem gf_TreeThing_71_32 : GF "LibraryDesk$TreeThing" "LibraryDesk$Slots" "LibraryDesk" 71 2 293 32 := ⟨RX22, TX22, 6, 1, by decide, clr_32, in_X22, by decide, rfl, Or.inr nw1454, rfl⟩
theorem gf_TreeThing_52_32 : GF "LibraryDesk$TreeThing" "LibraryDesk$Slots" "LibraryDesk" 52 0 297 32 := ⟨RX22, TX22, 6, 5, by decide, clr_32, in_X22, by decide, rfl, Or.inr nw1462, rfl⟩
theorem gf_TreeThing_25_34 : GF "LibraryDesk$TreeThing" "LibraryDesk$TreeThing" "LibraryDesk" 25 2 310 34 := ⟨RX24, TX24, 10, 5, by decide, clr_34, in_X24, by decide, rfl, Or.inl q1558, rfl⟩
theorem hdd_TreeThing_mendAdded_ : yX24_mendAdded.cls ≠ "java/lang/invoke/MethodHandle" ∧ yX24_mendAdded.cls ≠ "java/lang/invoke/VarHandle" ∧ (parseMethodDescriptor yX24_mendAdded.desc).map (fun d => d.parameters.length) = some 1 := by decide +kernel
theorem mok_TreeThing_mendAdded : MOK m_TreeThing_mendAdded := ⟨by decide +kernel, by decide, cd_TreeThing_mendAdded, pg_TreeThing_mendAdded⟩
theorem gf_TreeThing_43_34 : GF "LibraryDesk$TreeThing" "LibraryDesk$TreeThing" "LibraryDesk" 43 0 314 34 := ⟨RX24, TX24, 10, 9, by decide, clr_34, in_X24, by decide, rfl, Or.inl q1562, rfl⟩
theorem hdd_TreeThing_turnLeft_ : yX24_turnLeft.cls ≠ "java/lang/invoke/MethodHandle" ∧ yX24_turnLeft.cls ≠ "java/lang/invoke/VarHandle" ∧ (parseMethodDescriptor yX24_turnLeft.desc).map (fun d => d.parameters.length) = some 1 := by decide +kernel
theorem mok_TreeThing_turnLeft : MOK m_TreeThing_turnLeft := ⟨by decide +kernel, by decide, cd_TreeThing_turnLeft, pg_TreeThing_turnLeft⟩
theorem hdd_TreeThing_turnRight_ : yX24_turnRight.cls ≠ "java/lang/invoke/MethodHandle" ∧ yX24_turnRight.cls ≠ "java/lang/invoke/VarHandle" ∧ (parseMethodDescriptor yX24_turnRight.desc).map (fun d => d.parameters.length) = some 1 := by decide +kernel
theorem mok_TreeThing_turnRight : MOK m_TreeThing_turnRight := ⟨by decide +kernel, by decide, cd_TreeThing_turnRight, pg_TreeThing_turnRight⟩
theorem hdd_TreeThing_hang_ : yX24_hang.cls ≠ "java/lang/invoke/MethodHandle" ∧ yX24_hang.cls ≠ "java/lang/invoke/VarHandle" ∧ (parseMethodDescriptor yX24_hang.desc).map (fun d => d.parameters.length) = some 2 := by decide +kernel
theorem mok_TreeThing_hang : MOK m_TreeThing_hang := ⟨by decide +kernel, by decide, cd_TreeThing_hang, pg_TreeThing_hang⟩
theorem hdd_TreeThing_least_ : yX24_least.cls ≠ "java/lang/invoke/MethodHandle" ∧ yX24_least.cls ≠ "java/lang/invoke/VarHandle" ∧ (parseMethodDescriptor yX24_least.desc).map (fun d => d.parameters.length) = some 1 := by decide +kernel
theorem mok_TreeThing_least : MOK m_TreeThing_least := ⟨by decide +kernel, by decide, cd_TreeThing_least, pg_TreeThing_least⟩
theorem hdd_TreeThing_mendRemoved_ : yX24_mendRemoved.cls ≠ "java/lang/invoke/MethodHandle" ∧ yX24_mendRemoved.cls ≠ "java/lang/invoke/VarHandle" ∧ (parseMethodDescriptor yX24_mendRemoved.desc).map (fun d => d.parameters.length) = some 1 := by decide +kernel
theorem mok_TreeThing_mendRemoved : MOK m_TreeThing_mendRemoved := ⟨by decide +kernel, by decide, cd_TreeThing_mendRemoved, pg_TreeThing_mendRemoved⟩
theorem hdd_TreeThing_mendFar_ : yX24_mendFar.cls ≠ "java/lang/invoke/MethodHandle" ∧ yX24_mendFar.cls ≠ "java/lang/invoke/VarHandle" ∧ (parseMethodDescriptor yX24_mendFar.desc).map (fun d => d.parameters.length) = some 3 := by decide +kernel
theorem mok_TreeThing_mendFar : MOK m_TreeThing_mendFar := ⟨by decide +kernel, by decide, cd_TreeThing_mendFar, pg_TreeThing_mendFar⟩
theorem hdd_TreeThing_told_ : yX24_told.cls ≠ "java/lang/invoke/MethodHandle" ∧ yX24_told.cls ≠ "java/lang/invoke/VarHandle" ∧ (parseMethodDescriptor yX24_told.desc).map (fun d => d.parameters.length) = some 1 := by decide +kernel
theorem mok_TreeThing_told : MOK m_TreeThing_told := ⟨by decide +kernel, by decide, cd_TreeThing_told, pg_TreeThing_told⟩
theorem hdd_TreeThing_greatest_ : yX24_greatest.cls ≠ "java/lang/invoke/MethodHandle" ∧ yX24_greatest.cls ≠ "java/lang/invoke/VarHandle" ∧ (parseMethodDescriptor yX24_greatest.desc).map (fun d => d.parameters.length) = some 1 := by decide +kernel
theorem mok_TreeThing_greatest : MOK m_TreeThing_greatest := ⟨by decide +kernel, by decide, cd_TreeThing_greatest, pg_TreeThing_greatest⟩
theorem pf_HeapThing_init_9_35 : PF m_HeapThing_init "LibraryDesk$HeapThing" "LibraryDesk$HeapThing" "LibraryDesk" 9 2 315 (.array .int) 35 := ⟨RX25, TX25, 8, 2, tyX25, by decide, clr_35, in_X25, tyX25_ok, nmX25, by decide, rfl, nd_35, Or.inr (Or.inr ⟨q1589, rfl, rfl, rfl⟩), rfl, by decide +kernel⟩
theorem pf_HeapThing_init_15_35 : PF m_HeapThing_init "LibraryDesk$HeapThing" "LibraryDesk$HeapThing" "LibraryDesk" 15 2 316 (.array .int) 35 := ⟨RX25, TX25, 8, 3, tyX25, by decide, clr_35, in_X25, tyX25_ok, nmX25, by decide, rfl, nd_35, Or.inr (Or.inr ⟨q1590, rfl, rfl, rfl⟩), rfl, by decide +kernel⟩
theorem pf_HeapThing_18_35 {m : Nat} : PF m "LibraryDesk$HeapThing" "LibraryDesk$HeapThing" "LibraryDesk" 18 0 317 .int 35 := ⟨RX25, TX25, 8, 4, tyX25, by decide, clr_35, in_X25, tyX25_ok, nmX25, by decide, rfl, nd_35, Or.inl ⟨q1591, rfl⟩, rfl, by decide +kernel⟩
theorem pf_HeapThing_22_35 {m : Nat} : PF m "LibraryDesk$HeapThing" "LibraryDesk$HeapThing" "LibraryDesk" 22 0 318 .int 35 := ⟨RX25, TX25, 8, 5, tyX25, by decide, clr_35, in_X25, tyX25_ok, nmX25, by decide, rfl, nd_35, Or.inl ⟨q1592, rfl⟩, rfl, by decide +kernel⟩
theorem pf_HeapThing_25_35 {m : Nat} : PF m "LibraryDesk$HeapThing" "LibraryDesk$HeapThing" "LibraryDesk" 25 0 319 .int 35 := ⟨RX25, TX25, 8, 6, tyX25, by decide, clr_35, in_X25, tyX25_ok, nmX25, by decide, rfl, nd_35, Or.inl ⟨q1593, rfl⟩, rfl, by decide +kernel⟩
theorem pf_HeapThing_28_35 {m : Nat} : PF m "LibraryDesk$HeapThing" "LibraryDesk$HeapThing" "LibraryDesk" 28 0 320 .int 35 := ⟨RX25, TX25, 8, 7, tyX25, by decide, clr_35, in_X25, tyX25_ok, nmX25, by decide, rfl, nd_35, Or.inl ⟨q1594, rfl⟩, rfl, by decide +kernel⟩
theorem hdd_HeapThing_offer_ : yX25_offer.cls ≠ "java/lang/invoke/MethodHandle" ∧ yX25_offer.cls ≠ "java/lang/invoke/VarHandle" ∧ (parseMethodDescriptor yX25_offer.desc).map (fun d => d.parameters.length) = some 1 := by decide +kernel
theorem mok_HeapThing_offer : MOK m_HeapThing_offer := ⟨by decide +kernel, by decide, cd_HeapThing_offer, pg_HeapThing_offer⟩
theorem gf_HeapThing_18_35 : GF "LibraryDesk$HeapThing" "LibraryDesk$HeapThing" "LibraryDesk" 18 0 317 35 := ⟨RX25, TX25, 8, 4, by decide, clr_35, in_X25, by decide, rfl, Or.inl q1591, rfl⟩
theorem hdd_HeapThing_take_ : yX25_take.cls ≠ "java/lang/invoke/MethodHandle" ∧ yX25_take.cls ≠ "java/lang/invoke/VarHandle" ∧ (parseMethodDescriptor yX25_take.desc).map (fun d => d.parameters.length) = some 1 := by decide +kernel
theorem mok_HeapThing_take : MOK m_HeapThing_take := ⟨by decide +kernel, by decide, cd_HeapThing_take, pg_HeapThing_take⟩
theorem gf_HeapThing_9_35 : GF "LibraryDesk$HeapThing" "LibraryDesk$HeapThing" "LibraryDesk" 9 2 315 35 := ⟨RX25, TX25, 8, 2, by decide, clr_35, in_X25, by decide, rfl, Or.inl q1589, rfl⟩
theorem hdd_HeapThing_remove_ : yX25_remove.cls ≠ "java/lang/invoke/MethodHandle" ∧ yX25_remove.cls ≠ "java/lang/invoke/VarHandle" ∧ (parseMethodDescriptor yX25_remove.desc).map (fun d => d.parameters.length) = some 1 := by decide +kernel
theorem mok_HeapThing_remove : MOK m_HeapThing_remove := ⟨by decide +kernel, by decide, cd_HeapThing_remove, pg_HeapThing_remove⟩
theorem gf_HeapThing_22_35 : GF "LibraryDesk$HeapThing" "LibraryDesk$HeapThing" "LibraryDesk" 22 0 318 35 := ⟨RX25, TX25, 8, 5, by decide, clr_35, in_X25, by decide, rfl, Or.inl q1592, rfl⟩
theorem hdd_HeapThing_add_ : yX25_add.cls ≠ "java/lang/invoke/MethodHandle" ∧ yX25_add.cls ≠ "java/lang/invoke/VarHandle" ∧ (parseMethodDescriptor yX25_add.desc).map (fun d => d.parameters.length) = some 1 := by decide +kernel
theorem mok_HeapThing_add : MOK m_HeapThing_add := ⟨by decide +kernel, by decide, cd_HeapThing_add, pg_HeapThing_add⟩
theorem hdd_HeapThing_due_ : yX25_due.cls ≠ "java/lang/invoke/MethodHandle" ∧ yX25_due.cls ≠ "java/lang/invoke/VarHandle" ∧ (parseMethodDescriptor yX25_due.desc).map (fun d => d.parameters.length) = some 1 := by decide +kernel
theorem mok_HeapThing_due : MOK m_HeapThing_due := ⟨by decide +kernel, by decide, cd_HeapThing_due, pg_HeapThing_due⟩
theorem gf_HeapThing_15_35 : GF "LibraryDesk$HeapThing" "LibraryDesk$HeapThing" "LibraryDesk" 15 2 316 35 := ⟨RX25, TX25, 8, 3, by decide, clr_35, in_X25, by decide, rfl, Or.inl q1590, rfl⟩
theorem gf_HeapThing_28_35 : GF "LibraryDesk$HeapThing" "LibraryDesk$HeapThing" "LibraryDesk" 28 0 320 35 := ⟨RX25, TX25, 8, 7, by decide, clr_35, in_X25, by decide, rfl, Or.inl q1594, rfl⟩
theorem hdd_HeapThing_up_ : yX25_up.cls ≠ "java/lang/invoke/MethodHandle" ∧ yX25_up.cls ≠ "java/lang/invoke/VarHandle" ∧ (parseMethodDescriptor yX25_up.desc).map (fun d => d.parameters.length) = some 1 := by decide +kernel
theorem mok_HeapThing_up : MOK m_HeapThing_up := ⟨by decide +kernel, by decide, cd_HeapThing_up, pg_HeapThing_up⟩
theorem hdd_HeapThing_isBefore_ : yX25_isBefore.cls ≠ "java/lang/invoke/MethodHandle" ∧ yX25_isBefore.cls ≠ "java/lang/invoke/VarHandle" ∧ (parseMethodDescriptor yX25_isBefore.desc).map (fun d => d.parameters.length) = some 2 := by decide +kernel
theorem mok_HeapThing_isBefore : MOK m_HeapThing_isBefore := ⟨by decide +kernel, by decide, cd_HeapThing_isBefore, pg_HeapThing_isBefore⟩
theorem hdd_HeapThing_swap_ : yX25_swap.cls ≠ "java/lang/invoke/MethodHandle" ∧ yX25_swap.cls ≠ "java/lang/invoke/VarHandle" ∧ (parseMethodDescriptor yX25_swap.desc).map (fun d => d.parameters.length) = some 2 := by decide +kernel
theorem mok_HeapThing_swap : MOK m_HeapThing_swap := ⟨by decide +kernel, by decide, cd_HeapThing_swap, pg_HeapThing_swap⟩
theorem gf_HeapThing_25_35 : GF "LibraryDesk$HeapThing" "LibraryDesk$HeapThing" "LibraryDesk" 25 0 319 35 := ⟨RX25, TX25, 8, 6, by decide, clr_35, in_X25, by decide, rfl, Or.inl q1593, rfl⟩
theorem hdd_HeapThing_down_ : yX25_down.cls ≠ "java/lang/invoke/MethodHandle" ∧ yX25_down.cls ≠ "java/lang/invoke/VarHandle" ∧ (parseMethodDescriptor yX25_down.desc).map (fun d => d.parameters.length) = some 1 := by decide +kernel
theorem mok_HeapThing_down : MOK m_HeapThing_down := ⟨by decide +kernel, by decide, cd_HeapThing_down, pg_HeapThing_down⟩
theorem pf_BitsThing_init_9_36 : PF m_BitsThing_init "LibraryDesk$BitsThing" "LibraryDesk$BitsThing" "LibraryDesk" 9 2 321 (.array .long) 36 := ⟨RX26, TX26, 3, 2, tyX26, by decide, clr_36, in_X26, tyX26_ok, nmX26, by decide, rfl, nd_36, Or.inr (Or.inr ⟨q1616, rfl, rfl, rfl⟩), rfl, by decide +kernel⟩
theorem gf_BitsThing_9_36 : GF "LibraryDesk$BitsThing" "LibraryDesk$BitsThing" "LibraryDesk" 9 2 321 36 := ⟨RX26, TX26, 3, 2, by decide, clr_36, in_X26, by decide, rfl, Or.inl q1616, rfl⟩
theorem hdd_BitsThing_has_ : yX26_has.cls ≠ "java/lang/invoke/MethodHandle" ∧ yX26_has.cls ≠ "java/lang/invoke/VarHandle" ∧ (parseMethodDescriptor yX26_has.desc).map (fun d => d.parameters.length) = some 1 := by decide +kernel
theorem mok_BitsThing_has : MOK m_BitsThing_has := ⟨by decide +kernel, by decide, cd_BitsThing_has, pg_BitsThing_has⟩
theorem hdd_BitsThing_put_ : yX26_put.cls ≠ "java/lang/invoke/MethodHandle" ∧ yX26_put.cls ≠ "java/lang/invoke/VarHandle" ∧ (parseMethodDescriptor yX26_put.desc).map (fun d => d.parameters.length) = some 2 := by decide +kernel
theorem mok_BitsThing_put : MOK m_BitsThing_put := ⟨by decide +kernel, by decide, cd_BitsThing_put, pg_BitsThing_put⟩
theorem hdd_BitsThing_range_ : yX26_range.cls ≠ "java/lang/invoke/MethodHandle" ∧ yX26_range.cls ≠ "java/lang/invoke/VarHandle" ∧ (parseMethodDescriptor yX26_range.desc).map (fun d => d.parameters.length) = some 3 := by decide +kernel
theorem mok_BitsThing_range : MOK m_BitsThing_range := ⟨by decide +kernel, by decide, cd_BitsThing_range, pg_BitsThing_range⟩
theorem hdd_BitsThing_next_ : yX26_next.cls ≠ "java/lang/invoke/MethodHandle" ∧ yX26_next.cls ≠ "java/lang/invoke/VarHandle" ∧ (parseMethodDescriptor yX26_next.desc).map (fun d => d.parameters.length) = some 2 := by decide +kernel
theorem mok_BitsThing_next : MOK m_BitsThing_next := ⟨by decide +kernel, by decide, cd_BitsThing_next, pg_BitsThing_next⟩
theorem hdd_BitsThing_before_ : yX26_before.cls ≠ "java/lang/invoke/MethodHandle" ∧ yX26_before.cls ≠ "java/lang/invoke/VarHandle" ∧ (parseMethodDescriptor yX26_before.desc).map (fun d => d.parameters.length) = some 2 := by decide +kernel
theorem mok_BitsThing_before : MOK m_BitsThing_before := ⟨by decide +kernel, by decide, cd_BitsThing_before, pg_BitsThing_before⟩
theorem hdd_BitsThing_count_ : yX26_count.cls ≠ "java/lang/invoke/MethodHandle" ∧ yX26_count.cls ≠ "java/lang/invoke/VarHandle" ∧ (parseMethodDescriptor yX26_count.desc).map (fun d => d.parameters.length) = some 0 := by decide +kernel
theorem mok_BitsThing_count : MOK m_BitsThing_count := ⟨by decide +kernel, by decide, cd_BitsThing_count, pg_BitsThing_count⟩
theorem hdd_BitsThing_ones_ : yX26_ones.cls ≠ "java/lang/invoke/MethodHandle" ∧ yX26_ones.cls ≠ "java/lang/invoke/VarHandle" ∧ (parseMethodDescriptor yX26_ones.desc).map (fun d => d.parameters.length) = some 1 := by decide +kernel
theorem mok_BitsThing_ones : MOK m_BitsThing_ones := ⟨by decide +kernel, by decide, cd_BitsThing_ones, pg_BitsThing_ones⟩
theorem pf_TextThing_init_9_37 : PF m_TextThing_init "LibraryDesk$TextThing" "LibraryDesk$TextThing" "LibraryDesk" 9 2 322 (.array .byte) 37 := ⟨RX27, TX27, 4, 2, tyX27, by decide, clr_37, in_X27, tyX27_ok, nmX27, by decide, rfl, nd_37, Or.inr (Or.inr ⟨q1628, rfl, rfl, rfl⟩), rfl, by decide +kernel⟩
theorem pf_TextThing_15_37 {m : Nat} : PF m "LibraryDesk$TextThing" "LibraryDesk$TextThing" "LibraryDesk" 15 0 323 .int 37 := ⟨RX27, TX27, 4, 3, tyX27, by decide, clr_37, in_X27, tyX27_ok, nmX27, by decide, rfl, nd_37, Or.inl ⟨q1630, rfl⟩, rfl, by decide +kernel⟩
theorem gf_TextThing_15_37 : GF "LibraryDesk$TextThing" "LibraryDesk$TextThing" "LibraryDesk" 15 0 323 37 := ⟨RX27, TX27, 4, 3, by decide, clr_37, in_X27, by decide, rfl, Or.inl q1630, rfl⟩
theorem gf_TextThing_9_37 : GF "LibraryDesk$TextThing" "LibraryDesk$TextThing" "LibraryDesk" 9 2 322 37 := ⟨RX27, TX27, 4, 2, by decide, clr_37, in_X27, by decide, rfl, Or.inl q1628, rfl⟩
theorem hdd_TextThing_splice_ : yX27_splice.cls ≠ "java/lang/invoke/MethodHandle" ∧ yX27_splice.cls ≠ "java/lang/invoke/VarHandle" ∧ (parseMethodDescriptor yX27_splice.desc).map (fun d => d.parameters.length) = some 4 := by decide +kernel
theorem mok_TextThing_splice : MOK m_TextThing_splice := ⟨by decide +kernel, by decide, cd_TextThing_splice, pg_TextThing_splice⟩
theorem hdd_TextThing_reverse_ : yX27_reverse.cls ≠ "java/lang/invoke/MethodHandle" ∧ yX27_reverse.cls ≠ "java/lang/invoke/VarHandle" ∧ (parseMethodDescriptor yX27_reverse.desc).map (fun d => d.parameters.length) = some 0 := by decide +kernel
theorem mok_TextThing_reverse : MOK m_TextThing_reverse := ⟨by decide +kernel, by decide, cd_TextThing_reverse, pg_TextThing_reverse⟩
theorem hdd_TextThing_find_ : yX27_find.cls ≠ "java/lang/invoke/MethodHandle" ∧ yX27_find.cls ≠ "java/lang/invoke/VarHandle" ∧ (parseMethodDescriptor yX27_find.desc).map (fun d => d.parameters.length) = some 3 := by decide +kernel
theorem mok_TextThing_find : MOK m_TextThing_find := ⟨by decide +kernel, by decide, cd_TextThing_find, pg_TextThing_find⟩
theorem hdd_TextThing_findLast_ : yX27_findLast.cls ≠ "java/lang/invoke/MethodHandle" ∧ yX27_findLast.cls ≠ "java/lang/invoke/VarHandle" ∧ (parseMethodDescriptor yX27_findLast.desc).map (fun d => d.parameters.length) = some 3 := by decide +kernel
theorem mok_TextThing_findLast : MOK m_TextThing_findLast := ⟨by decide +kernel, by decide, cd_TextThing_findLast, pg_TextThing_findLast⟩
theorem hdd_TextThing_hash_ : yX27_hash.cls ≠ "java/lang/invoke/MethodHandle" ∧ yX27_hash.cls ≠ "java/lang/invoke/VarHandle" ∧ (parseMethodDescriptor yX27_hash.desc).map (fun d => d.parameters.length) = some 0 := by decide +kernel
theorem mok_TextThing_hash : MOK m_TextThing_hash := ⟨by decide +kernel, by decide, cd_TextThing_hash, pg_TextThing_hash⟩
theorem hdd_TextThing_cut_ : yX27_cut.cls ≠ "java/lang/invoke/MethodHandle" ∧ yX27_cut.cls ≠ "java/lang/invoke/VarHandle" ∧ (parseMethodDescriptor yX27_cut.desc).map (fun d => d.parameters.length) = some 1 := by decide +kernel
theorem mok_TextThing_cut : MOK m_TextThing_cut := ⟨by decide +kernel, by decide, cd_TextThing_cut, pg_TextThing_cut⟩
theorem hdd_TextThing_trim_ : yX27_trim.cls ≠ "java/lang/invoke/MethodHandle" ∧ yX27_trim.cls ≠ "java/lang/invoke/VarHandle" ∧ (parseMethodDescriptor yX27_trim.desc).map (fun d => d.parameters.length) = some 0 := by decide +kernel
theorem mok_TextThing_trim : MOK m_TextThing_trim := ⟨by decide +kernel, by decide, cd_TextThing_trim, pg_TextThing_trim⟩
theorem hdd_TextThing_letters_ : yX27_letters.cls ≠ "java/lang/invoke/MethodHandle" ∧ yX27_letters.cls ≠ "java/lang/invoke/VarHandle" ∧ (parseMethodDescriptor yX27_letters.desc).map (fun d => d.parameters.length) = some 1 := by decide +kernel
theorem mok_TextThing_letters : MOK m_TextThing_letters := ⟨by decide +kernel, by decide, cd_TextThing_letters, pg_TextThing_letters⟩
theorem hdd_TextThing_repeat_ : yX27_repeat.cls ≠ "java/lang/invoke/MethodHandle" ∧ yX27_repeat.cls ≠ "java/lang/invoke/VarHandle" ∧ (parseMethodDescriptor yX27_repeat.desc).map (fun d => d.parameters.length) = some 1 := by decide +kernel
theorem mok_TextThing_repeat : MOK m_TextThing_repeat := ⟨by decide +kernel, by decide, cd_TextThing_repeat, pg_TextThing_repeat⟩
theorem hdd_TextThing_crc_ : yX27_crc.cls ≠ "java/lang/invoke/MethodHandle" ∧ yX27_crc.cls ≠ "java/lang/invoke/VarHandle" ∧ (parseMethodDescriptor yX27_crc.desc).map (fun d => d.parameters.length) = some 0 := by decide +kernel
theorem mok_TextThing_crc : MOK m_TextThing_crc := ⟨by decide +kernel, by decide, cd_TextThing_crc, pg_TextThing_crc⟩
theorem hdd_TextThing_decode_ : yX27_decode.cls ≠ "java/lang/invoke/MethodHandle" ∧ yX27_decode.cls ≠ "java/lang/invoke/VarHandle" ∧ (parseMethodDescriptor yX27_decode.desc).map (fun d => d.parameters.length) = some 2 := by decide +kernel
theorem mok_TextThing_decode : MOK m_TextThing_decode := ⟨by decide +kernel, by decide, cd_TextThing_decode, pg_TextThing_decode⟩
theorem hdd_TextThing_show_ : yX27_show.cls ≠ "java/lang/invoke/MethodHandle" ∧ yX27_show.cls ≠ "java/lang/invoke/VarHandle" ∧ (parseMethodDescriptor yX27_show.desc).map (fun d => d.parameters.length) = some 2 := by decide +kernel
theorem mok_TextThing_show : MOK m_TextThing_show := ⟨by decide +kernel, by decide, cd_TextThing_show, pg_TextThing_show⟩
theorem hdd_TextThing_stands_ : yX27_stands.cls ≠ "java/lang/invoke/MethodHandle" ∧ yX27_stands.cls ≠ "java/lang/invoke/VarHandle" ∧ (parseMethodDescriptor yX27_stands.desc).map (fun d => d.parameters.length) = some 3 := by decide +kernel
theorem mok_TextThing_stands : MOK m_TextThing_stands := ⟨by decide +kernel, by decide, cd_TextThing_stands, pg_TextThing_stands⟩
theorem bkf_TextThing_55_57 : BKF "LibraryDesk$TextThing" RX38 "LibraryDesk" TB48 cX38_init 48 365 55 57 := ⟨by decide, rfl, rfl, q3099, q3100, q561, q3109, q3110, Or.inr nw3108, by decide, by decide⟩
theorem hdd_TextThing_four_ : yX27_four.cls ≠ "java/lang/invoke/MethodHandle" ∧ yX27_four.cls ≠ "java/lang/invoke/VarHandle" ∧ (parseMethodDescriptor yX27_four.desc).map (fun d => d.parameters.length) = some 3 := by decide +kernel
theorem mok_TextThing_four : MOK m_TextThing_four := ⟨by decide +kernel, by decide, cd_TextThing_four, pg_TextThing_four⟩
theorem hdd_TextThing_worth_ : yX27_worth.cls ≠ "java/lang/invoke/MethodHandle" ∧ yX27_worth.cls ≠ "java/lang/invoke/VarHandle" ∧ (parseMethodDescriptor yX27_worth.desc).map (fun d => d.parameters.length) = some 1 := by decide +kernel
theorem mok_TextThing_worth : MOK m_TextThing_worth := ⟨by decide +kernel, by decide, cd_TextThing_worth, pg_TextThing_worth⟩
theorem hdd_TextThing_encode_ : yX27_encode.cls ≠ "java/lang/invoke/MethodHandle" ∧ yX27_encode.cls ≠ "java/lang/invoke/VarHandle" ∧ (parseMethodDescriptor yX27_encode.desc).map (fun d => d.parameters.length) = some 1 := by decide +kernel
theorem mok_TextThing_encode : MOK m_TextThing_encode := ⟨by decide +kernel, by decide, cd_TextThing_encode, pg_TextThing_encode⟩
theorem gf_TextThing_115_12 : GF "LibraryDesk$TextThing" "LibraryDesk$Out" "LibraryDesk" 115 0 23 12 := ⟨RX2, TX2, 2, 1, by decide, clr_12, in_X2, by decide, rfl, Or.inr nw587, rfl⟩
theorem hdd_TextThing_letter_ : yX27_letter.cls ≠ "java/lang/invoke/MethodHandle" ∧ yX27_letter.cls ≠ "java/lang/invoke/VarHandle" ∧ (parseMethodDescriptor yX27_letter.desc).map (fun d => d.parameters.length) = some 1 := by decide +kernel
theorem mok_TextThing_letter : MOK m_TextThing_letter := ⟨by decide +kernel, by decide, cd_TextThing_letter, pg_TextThing_letter⟩
theorem pf_PatternThing_init_11_38 : PF m_PatternThing_init "LibraryDesk$PatternThing" "LibraryDesk$PatternThing" "LibraryDesk" 11 2 324 (.array .int) 38 := ⟨RX28, TX28, 13, 2, tyX28, by decide, clr_38, in_X28, tyX28_ok, nmX28, by decide, rfl, nd_38, Or.inr (Or.inr ⟨q1647, rfl, rfl, rfl⟩), rfl, by decide +kernel⟩
theorem pf_PatternThing_init_15_38 : PF m_PatternThing_init "LibraryDesk$PatternThing" "LibraryDesk$PatternThing" "LibraryDesk" 15 2 325 (.array .int) 38 := ⟨RX28, TX28, 13, 3, tyX28, by decide, clr_38, in_X28, tyX28_ok, nmX28, by decide, rfl, nd_38, Or.inr (Or.inr ⟨q1650, rfl, rfl, rfl⟩), rfl, by decide +kernel⟩
theorem pf_PatternThing_init_18_38 : PF m_PatternThing_init "LibraryDesk$PatternThing" "LibraryDesk$PatternThing" "LibraryDesk" 18 2 326 (.array .int) 38 := ⟨RX28, TX28, 13, 4, tyX28, by decide, clr_38, in_X28, tyX28_ok, nmX28, by decide, rfl, nd_38, Or.inr (Or.inr ⟨q1653, rfl, rfl, rfl⟩), rfl, by decide +kernel⟩
theorem pf_PatternThing_init_21_38 : PF m_PatternThing_init "LibraryDesk$PatternThing" "LibraryDesk$PatternThing" "LibraryDesk" 21 2 327 (.array .int) 38 := ⟨RX28, TX28, 13, 5, tyX28, by decide, clr_38, in_X28, tyX28_ok, nmX28, by decide, rfl, nd_38, Or.inr (Or.inr ⟨q1656, rfl, rfl, rfl⟩), rfl, by decide +kernel⟩
theorem pf_PatternThing_init_24_38 : PF m_PatternThing_init "LibraryDesk$PatternThing" "LibraryDesk$PatternThing" "LibraryDesk" 24 2 328 (.array .int) 38 := ⟨RX28, TX28, 13, 6, tyX28, by decide, clr_38, in_X28, tyX28_ok, nmX28, by decide, rfl, nd_38, Or.inr (Or.inr ⟨q1658, rfl, rfl, rfl⟩), rfl, by decide +kernel⟩
theorem pf_PatternThing_init_27_38 : PF m_PatternThing_init "LibraryDesk$PatternThing" "LibraryDesk$PatternThing" "LibraryDesk" 27 2 332 (.array .long) 38 := ⟨RX28, TX28, 13, 10, tyX28, by decide, clr_38, in_X28, tyX28_ok, nmX28, by decide, rfl, nd_38, Or.inr (Or.inr ⟨q1667, rfl, rfl, rfl⟩), rfl, by decide +kernel⟩
theorem pf_PatternThing_31_38 {m : Nat} : PF m "LibraryDesk$PatternThing" "LibraryDesk$PatternThing" "LibraryDesk" 31 0 331 .int 38 := ⟨RX28, TX28, 13, 9, tyX28, by decide, clr_38, in_X28, tyX28_ok, nmX28, by decide, rfl, nd_38, Or.inl ⟨q1664, rfl⟩, rfl, by decide +kernel⟩
theorem pf_PatternThing_35_38 {m : Nat} : PF m "LibraryDesk$PatternThing" "LibraryDesk$PatternThing" "LibraryDesk" 35 0 333 .int 38 := ⟨RX28, TX28, 13, 11, tyX28, by decide, clr_38, in_X28, tyX28_ok, nmX28, by decide, rfl, nd_38, Or.inl ⟨q1669, rfl⟩, rfl, by decide +kernel⟩
theorem pf_PatternThing_41_38 {m : Nat} : PF m "LibraryDesk$PatternThing" "LibraryDesk$PatternThing" "LibraryDesk" 41 0 329 .int 38 := ⟨RX28, TX28, 13, 7, tyX28, by decide, clr_38, in_X28, tyX28_ok, nmX28, by decide, rfl, nd_38, Or.inl ⟨q1661, rfl⟩, rfl, by decide +kernel⟩
theorem pf_PatternThing_38_38 {m : Nat} : PF m "LibraryDesk$PatternThing" "LibraryDesk$PatternThing" "LibraryDesk" 38 0 334 .int 38 := ⟨RX28, TX28, 13, 12, tyX28, by decide, clr_38, in_X28, tyX28_ok, nmX28, by decide, rfl, nd_38, Or.inl ⟨q1671, rfl⟩, rfl, by decide +kernel⟩
theorem pf_PatternThing_44_38 {m : Nat} : PF m "LibraryDesk$PatternThing" "LibraryDesk$PatternThing" "LibraryDesk" 44 0 330 .int 38 := ⟨RX28, TX28, 13, 8, tyX28, by decide, clr_38, in_X28, tyX28_ok, nmX28, by decide, rfl, nd_38, Or.inl ⟨q1662, rfl⟩, rfl, by decide +kernel⟩
theorem gf_PatternThing_31_38 : GF "LibraryDesk$PatternThing" "LibraryDesk$PatternThing" "LibraryDesk" 31 0 331 38 := ⟨RX28, TX28, 13, 9, by decide, clr_38, in_X28, by decide, rfl, Or.inl q1664, rfl⟩
theorem gf_PatternThing_11_38 : GF "LibraryDesk$PatternThing" "LibraryDesk$PatternThing" "LibraryDesk" 11 2 324 38 := ⟨RX28, TX28, 13, 2, by decide, clr_38, in_X28, by decide, rfl, Or.inl q1647, rfl⟩
theorem gf_PatternThing_15_38 : GF "LibraryDesk$PatternThing" "LibraryDesk$PatternThing" "LibraryDesk" 15 2 325 38 := ⟨RX28, TX28, 13, 3, by decide, clr_38, in_X28, by decide, rfl, Or.inl q1650, rfl⟩
theorem gf_PatternThing_18_38 : GF "LibraryDesk$PatternThing" "LibraryDesk$PatternThing" "LibraryDesk" 18 2 326 38 := ⟨RX28, TX28, 13, 4, by decide, clr_38, in_X28, by decide, rfl, Or.inl q1653, rfl⟩
theorem gf_PatternThing_21_38 : GF "LibraryDesk$PatternThing" "LibraryDesk$PatternThing" "LibraryDesk" 21 2 327 38 := ⟨RX28, TX28, 13, 5, by decide, clr_38, in_X28, by decide, rfl, Or.inl q1656, rfl⟩
theorem gf_PatternThing_44_38 : GF "LibraryDesk$PatternThing" "LibraryDesk$PatternThing" "LibraryDesk" 44 0 330 38 := ⟨RX28, TX28, 13, 8, by decide, clr_38, in_X28, by decide, rfl, Or.inl q1662, rfl⟩
theorem gf_PatternThing_41_38 : GF "LibraryDesk$PatternThing" "LibraryDesk$PatternThing" "LibraryDesk" 41 0 329 38 := ⟨RX28, TX28, 13, 7, by decide, clr_38, in_X28, by decide, rfl, Or.inl q1661, rfl⟩
theorem gf_PatternThing_24_38 : GF "LibraryDesk$PatternThing" "LibraryDesk$PatternThing" "LibraryDesk" 24 2 328 38 := ⟨RX28, TX28, 13, 6, by decide, clr_38, in_X28, by decide, rfl, Or.inl q1658, rfl⟩
theorem gf_PatternThing_27_38 : GF "LibraryDesk$PatternThing" "LibraryDesk$PatternThing" "LibraryDesk" 27 2 332 38 := ⟨RX28, TX28, 13, 10, by decide, clr_38, in_X28, by decide, rfl, Or.inl q1667, rfl⟩
theorem pf_CursorThing_9_39 {m : Nat} : PF m "LibraryDesk$CursorThing" "LibraryDesk$CursorThing" "LibraryDesk" 9 2 335 (.object "LibraryDesk$Thing") 39 := ⟨RX29, TX29, 6, 2, tyX29, by decide, clr_39, in_X29, tyX29_ok, nmX29, by decide, rfl, nd_39, Or.inl ⟨q1704, rfl⟩, rfl, by decide +kernel⟩
theorem pf_CursorThing_15_39 {m : Nat} : PF m "LibraryDesk$CursorThing" "LibraryDesk$CursorThing" "LibraryDesk" 15 0 337 .int 39 := ⟨RX29, TX29, 6, 4, tyX29, by decide, clr_39, in_X29, tyX29_ok, nmX29, by decide, rfl, nd_39, Or.inl ⟨q1706, rfl⟩, rfl, by decide +kernel⟩
theorem gf_CursorThing_9_39 : GF "LibraryDesk$CursorThing" "LibraryDesk$CursorThing" "LibraryDesk" 9 2 335 39 := ⟨RX29, TX29, 6, 2, by decide, clr_39, in_X29, by decide, rfl, Or.inl q1704, rfl⟩
theorem pf_CursorThing_27_39 {m : Nat} : PF m "LibraryDesk$CursorThing" "LibraryDesk$CursorThing" "LibraryDesk" 27 0 336 .int 39 := ⟨RX29, TX29, 6, 3, tyX29, by decide, clr_39, in_X29, tyX29_ok, nmX29, by decide, rfl, nd_39, Or.inl ⟨q1705, rfl⟩, rfl, by decide +kernel⟩
theorem pf_CursorThing_33_39 {m : Nat} : PF m "LibraryDesk$CursorThing" "LibraryDesk$CursorThing" "LibraryDesk" 33 0 338 .int 39 := ⟨RX29, TX29, 6, 5, tyX29, by decide, clr_39, in_X29, tyX29_ok, nmX29, by decide, rfl, nd_39, Or.inl ⟨q1707, rfl⟩, rfl, by decide +kernel⟩
theorem hdd_CursorThing_now_ : yX29_now.cls ≠ "java/lang/invoke/MethodHandle" ∧ yX29_now.cls ≠ "java/lang/invoke/VarHandle" ∧ (parseMethodDescriptor yX29_now.desc).map (fun d => d.parameters.length) = some 0 := by decide +kernel
theorem mok_CursorThing_now : MOK m_CursorThing_now := ⟨by decide +kernel, by decide, cd_CursorThing_now, pg_CursorThing_now⟩
theorem gf_CursorThing_40_28 : GF "LibraryDesk$CursorThing" "LibraryDesk$Rows" "LibraryDesk" 40 0 278 28 := ⟨RX18, TX18, 4, 3, by decide, clr_28, in_X18, by decide, rfl, Or.inr nw1390, rfl⟩
theorem hdx_LibraryDesk_Maps_changes___I_0 : ("LibraryDesk$Maps" : String) ≠ "java/lang/invoke/MethodHandle" ∧ ("LibraryDesk$Maps" : String) ≠ "java/lang/invoke/VarHandle" ∧ (parseMethodDescriptor "()I").map (fun d => d.parameters.length) = some 0 := by decide +kernel
theorem mok_SubThing_changes : MOK m_SubThing_changes := ⟨by decide +kernel, by decide, cd_SubThing_changes, pg_SubThing_changes⟩
theorem mok_TreeThing_changes : MOK m_TreeThing_changes := ⟨by decide +kernel, by decide, cd_TreeThing_changes, pg_TreeThing_changes⟩
theorem mok_LinkedThing_changes : MOK m_LinkedThing_changes := ⟨by decide +kernel, by decide, cd_LinkedThing_changes, pg_LinkedThing_changes⟩
theorem mok_HashThing_changes : MOK m_HashThing_changes := ⟨by decide +kernel, by decide, cd_HashThing_changes, pg_HashThing_changes⟩
theorem hdd_CursorThing_isOfMap_ : yX29_isOfMap.cls ≠ "java/lang/invoke/MethodHandle" ∧ yX29_isOfMap.cls ≠ "java/lang/invoke/VarHandle" ∧ (parseMethodDescriptor yX29_isOfMap.desc).map (fun d => d.parameters.length) = some 0 := by decide +kernel
theorem mok_CursorThing_isOfMap : MOK m_CursorThing_isOfMap := ⟨by decide +kernel, by decide, cd_CursorThing_isOfMap, pg_CursorThing_isOfMap⟩
theorem hdd_CursorThing_check_ : yX29_check.cls ≠ "java/lang/invoke/MethodHandle" ∧ yX29_check.cls ≠ "java/lang/invoke/VarHandle" ∧ (parseMethodDescriptor yX29_check.desc).map (fun d => d.parameters.length) = some 0 := by decide +kernel
theorem mok_CursorThing_check : MOK m_CursorThing_check := ⟨by decide +kernel, by decide, cd_CursorThing_check, pg_CursorThing_check⟩
theorem gf_CursorThing_15_39 : GF "LibraryDesk$CursorThing" "LibraryDesk$CursorThing" "LibraryDesk" 15 0 337 39 := ⟨RX29, TX29, 6, 4, by decide, clr_39, in_X29, by decide, rfl, Or.inl q1706, rfl⟩
theorem hdd_CursorThing_inMap_ : yX29_inMap.cls ≠ "java/lang/invoke/MethodHandle" ∧ yX29_inMap.cls ≠ "java/lang/invoke/VarHandle" ∧ (parseMethodDescriptor yX29_inMap.desc).map (fun d => d.parameters.length) = some 3 := by decide +kernel
theorem mok_CursorThing_inMap : MOK m_CursorThing_inMap := ⟨by decide +kernel, by decide, cd_CursorThing_inMap, pg_CursorThing_inMap⟩
theorem hdd_CursorThing_inList_ : yX29_inList.cls ≠ "java/lang/invoke/MethodHandle" ∧ yX29_inList.cls ≠ "java/lang/invoke/VarHandle" ∧ (parseMethodDescriptor yX29_inList.desc).map (fun d => d.parameters.length) = some 3 := by decide +kernel
theorem mok_CursorThing_inList : MOK m_CursorThing_inList := ⟨by decide +kernel, by decide, cd_CursorThing_inList, pg_CursorThing_inList⟩
theorem gf_CursorThing_33_39 : GF "LibraryDesk$CursorThing" "LibraryDesk$CursorThing" "LibraryDesk" 33 0 338 39 := ⟨RX29, TX29, 6, 5, by decide, clr_39, in_X29, by decide, rfl, Or.inl q1707, rfl⟩
theorem gf_CursorThing_27_39 : GF "LibraryDesk$CursorThing" "LibraryDesk$CursorThing" "LibraryDesk" 27 0 336 39 := ⟨RX29, TX29, 6, 3, by decide, clr_39, in_X29, by decide, rfl, Or.inl q1705, rfl⟩
theorem gf_ViewThing_29_28 : GF "LibraryDesk$ViewThing" "LibraryDesk$Rows" "LibraryDesk" 29 0 278 28 := ⟨RX18, TX18, 4, 3, by decide, clr_28, in_X18, by decide, rfl, Or.inr nw1389, rfl⟩
theorem hdd_ViewThing_rows_ : yX30_rows.cls ≠ "java/lang/invoke/MethodHandle" ∧ yX30_rows.cls ≠ "java/lang/invoke/VarHandle" ∧ (parseMethodDescriptor yX30_rows.desc).map (fun d => d.parameters.length) = some 0 := by decide +kernel
theorem gf_ViewThing_34_40 : GF "LibraryDesk$ViewThing" "LibraryDesk$ViewThing" "LibraryDesk" 34 0 342 40 := ⟨RX30, TX30, 6, 5, by decide, clr_40, in_X30, by decide, rfl, Or.inl q1728, rfl⟩
theorem gf_ViewThing_9_40 : GF "LibraryDesk$ViewThing" "LibraryDesk$ViewThing" "LibraryDesk" 9 2 339 40 := ⟨RX30, TX30, 6, 2, by decide, clr_40, in_X30, by decide, rfl, Or.inl q1725, rfl⟩
theorem gf_ViewThing_22_40 : GF "LibraryDesk$ViewThing" "LibraryDesk$ViewThing" "LibraryDesk" 22 0 341 40 := ⟨RX30, TX30, 6, 4, by decide, clr_40, in_X30, by decide, rfl, Or.inl q1727, rfl⟩
theorem gf_ViewThing_19_40 : GF "LibraryDesk$ViewThing" "LibraryDesk$ViewThing" "LibraryDesk" 19 0 340 40 := ⟨RX30, TX30, 6, 3, by decide, clr_40, in_X30, by decide, rfl, Or.inl q1726, rfl⟩
theorem pf_ViewThing_22_40 {m : Nat} : PF m "LibraryDesk$ViewThing" "LibraryDesk$ViewThing" "LibraryDesk" 22 0 341 .int 40 := ⟨RX30, TX30, 6, 4, tyX30, by decide, clr_40, in_X30, tyX30_ok, nmX30, by decide, rfl, nd_40, Or.inl ⟨q1727, rfl⟩, rfl, by decide +kernel⟩
theorem pf_ViewThing_34_40 {m : Nat} : PF m "LibraryDesk$ViewThing" "LibraryDesk$ViewThing" "LibraryDesk" 34 0 342 .int 40 := ⟨RX30, TX30, 6, 5, tyX30, by decide, clr_40, in_X30, tyX30_ok, nmX30, by decide, rfl, nd_40, Or.inl ⟨q1728, rfl⟩, rfl, by decide +kernel⟩
theorem pf_ViewThing_9_40 {m : Nat} : PF m "LibraryDesk$ViewThing" "LibraryDesk$ViewThing" "LibraryDesk" 9 2 339 (.object "LibraryDesk$Places") 40 := ⟨RX30, TX30, 6, 2, tyX30, by decide, clr_40, in_X30, tyX30_ok, nmX30, by decide, rfl, nd_40, Or.inl ⟨q1725, rfl⟩, rfl, by decide +kernel⟩
theorem pf_ViewThing_19_40 {m : Nat} : PF m "LibraryDesk$ViewThing" "LibraryDesk$ViewThing" "LibraryDesk" 19 0 340 .int 40 := ⟨RX30, TX30, 6, 3, tyX30, by decide, clr_40, in_X30, tyX30_ok, nmX30, by decide, rfl, nd_40, Or.inl ⟨q1726, rfl⟩, rfl, by decide +kernel⟩
theorem pf_WholeThing_init_14_41 : PF m_WholeThing_init "LibraryDesk$WholeThing" "LibraryDesk$WholeThing" "LibraryDesk" 14 2 343 (.object "LibraryDesk$Big") 41 := ⟨RX31, TX31, 3, 2, tyX31, by decide, clr_41, in_X31, tyX31_ok, nmX31, by decide, rfl, nd_41, Or.inr (Or.inr ⟨q1748, rfl, rfl, rfl⟩), rfl, by decide +kernel⟩
theorem nf_WholeThing_9 : NF "LibraryDesk$WholeThing" 9 18 3 := ⟨RX8, TX8, tyX8, by decide, clr_18, in_X8, tyX8_ok, q1746, q768, q515, by decide +kernel⟩
theorem pf_DecimalThing_init_14_42 : PF m_DecimalThing_init "LibraryDesk$DecimalThing" "LibraryDesk$DecimalThing" "LibraryDesk" 14 2 344 (.object "LibraryDesk$Big") 42 := ⟨RX32, TX32, 4, 2, tyX32, by decide, clr_42, in_X32, tyX32_ok, nmX32, by decide, rfl, nd_42, Or.inr (Or.inr ⟨q1763, rfl, rfl, rfl⟩), rfl, by decide +kernel⟩
theorem nf_DecimalThing_9 : NF "LibraryDesk$DecimalThing" 9 18 3 := ⟨RX8, TX8, tyX8, by decide, clr_18, in_X8, tyX8_ok, q1761, q768, q515, by decide +kernel⟩
theorem gf_SubThing_21_43 : GF "LibraryDesk$SubThing" "LibraryDesk$SubThing" "LibraryDesk" 21 2 346 43 := ⟨RX33, TX33, 11, 2, by decide, clr_43, in_X33, by decide, rfl, Or.inl q1783, rfl⟩
theorem hdd_SubThing_if0_ : yX33_if0.cls ≠ "java/lang/invoke/MethodHandle" ∧ yX33_if0.cls ≠ "java/lang/invoke/VarHandle" ∧ (parseMethodDescriptor yX33_if0.desc).map (fun d => d.parameters.length) = some 1 := by decide +kernel
theorem mok_SubThing_if0 : MOK m_SubThing_if0 := ⟨by decide +kernel, by decide, cd_SubThing_if0, pg_SubThing_if0⟩
theorem hdd_TreeThing_find_ : yX24_find.cls ≠ "java/lang/invoke/MethodHandle" ∧ yX24_find.cls ≠ "java/lang/invoke/VarHandle" ∧ (parseMethodDescriptor yX24_find.desc).map (fun d => d.parameters.length) = some 1 := by decide +kernel
theorem hdd_TreeThing_key_ : yX24_key.cls ≠ "java/lang/invoke/MethodHandle" ∧ yX24_key.cls ≠ "java/lang/invoke/VarHandle" ∧ (parseMethodDescriptor yX24_key.desc).map (fun d => d.parameters.length) = some 1 := by decide +kernel
theorem gf_SubThing_29_43 : GF "LibraryDesk$SubThing" "LibraryDesk$SubThing" "LibraryDesk" 29 0 349 43 := ⟨RX33, TX33, 11, 5, by decide, clr_43, in_X33, by decide, rfl, Or.inl q1790, rfl⟩
theorem gf_SubThing_35_43 : GF "LibraryDesk$SubThing" "LibraryDesk$SubThing" "LibraryDesk" 35 0 350 43 := ⟨RX33, TX33, 11, 6, by decide, clr_43, in_X33, by decide, rfl, Or.inl q1791, rfl⟩
theorem gf_SubThing_32_43 : GF "LibraryDesk$SubThing" "LibraryDesk$SubThing" "LibraryDesk" 32 0 352 43 := ⟨RX33, TX33, 11, 8, by decide, clr_43, in_X33, by decide, rfl, Or.inl q1793, rfl⟩
theorem gf_SubThing_42_43 : GF "LibraryDesk$SubThing" "LibraryDesk$SubThing" "LibraryDesk" 42 0 353 43 := ⟨RX33, TX33, 11, 9, by decide, clr_43, in_X33, by decide, rfl, Or.inl q1794, rfl⟩
theorem gf_SubThing_39_43 : GF "LibraryDesk$SubThing" "LibraryDesk$SubThing" "LibraryDesk" 39 0 351 43 := ⟨RX33, TX33, 11, 7, by decide, clr_43, in_X33, by decide, rfl, Or.inl q1792, rfl⟩
theorem gf_SubThing_45_43 : GF "LibraryDesk$SubThing" "LibraryDesk$SubThing" "LibraryDesk" 45 0 354 43 := ⟨RX33, TX33, 11, 10, by decide, clr_43, in_X33, by decide, rfl, Or.inl q1795, rfl⟩
theorem hdd_TreeThing_value_ : yX24_value.cls ≠ "java/lang/invoke/MethodHandle" ∧ yX24_value.cls ≠ "java/lang/invoke/VarHandle" ∧ (parseMethodDescriptor yX24_value.desc).map (fun d => d.parameters.length) = some 1 := by decide +kernel
theorem hdd_TreeThing_setValue_ : yX24_setValue.cls ≠ "java/lang/invoke/MethodHandle" ∧ yX24_setValue.cls ≠ "java/lang/invoke/VarHandle" ∧ (parseMethodDescriptor yX24_setValue.desc).map (fun d => d.parameters.length) = some 2 := by decide +kernel
theorem hdd_TreeThing_checkRoom_ : yX24_checkRoom.cls ≠ "java/lang/invoke/MethodHandle" ∧ yX24_checkRoom.cls ≠ "java/lang/invoke/VarHandle" ∧ (parseMethodDescriptor yX24_checkRoom.desc).map (fun d => d.parameters.length) = some 1 := by decide +kernel
theorem hdd_TreeThing_add_ : yX24_add.cls ≠ "java/lang/invoke/MethodHandle" ∧ yX24_add.cls ≠ "java/lang/invoke/VarHandle" ∧ (parseMethodDescriptor yX24_add.desc).map (fun d => d.parameters.length) = some 2 := by decide +kernel
theorem hdd_TreeThing_remove_ : yX24_remove.cls ≠ "java/lang/invoke/MethodHandle" ∧ yX24_remove.cls ≠ "java/lang/invoke/VarHandle" ∧ (parseMethodDescriptor yX24_remove.desc).map (fun d => d.parameters.length) = some 1 := by decide +kernel
theorem hdd_SubThing_first_ : yX33_first.cls ≠ "java/lang/invoke/MethodHandle" ∧ yX33_first.cls ≠ "java/lang/invoke/VarHandle" ∧ (parseMethodDescriptor yX33_first.desc).map (fun d => d.parameters.length) = some 0 := by decide +kernel
theorem hdd_SubThing_next_ : yX33_next.cls ≠ "java/lang/invoke/MethodHandle" ∧ yX33_next.cls ≠ "java/lang/invoke/VarHandle" ∧ (parseMethodDescriptor yX33_next.desc).map (fun d => d.parameters.length) = some 1 := by decide +kernel
theorem gf_SubThing_25_43 : GF "LibraryDesk$SubThing" "LibraryDesk$SubThing" "LibraryDesk" 25 0 348 43 := ⟨RX33, TX33, 11, 4, by decide, clr_43, in_X33, by decide, rfl, Or.inl q1787, rfl⟩
theorem hdd_SubThing_lowest_ : yX33_lowest.cls ≠ "java/lang/invoke/MethodHandle" ∧ yX33_lowest.cls ≠ "java/lang/invoke/VarHandle" ∧ (parseMethodDescriptor yX33_lowest.desc).map (fun d => d.parameters.length) = some 0 := by decide +kernel
theorem mok_SubThing_lowest : MOK m_SubThing_lowest := ⟨by decide +kernel, by decide, cd_SubThing_lowest, pg_SubThing_lowest⟩
theorem hdd_SubThing_highest_ : yX33_highest.cls ≠ "java/lang/invoke/MethodHandle" ∧ yX33_highest.cls ≠ "java/lang/invoke/VarHandle" ∧ (parseMethodDescriptor yX33_highest.desc).map (fun d => d.parameters.length) = some 0 := by decide +kernel
theorem mok_SubThing_highest : MOK m_SubThing_highest := ⟨by decide +kernel, by decide, cd_SubThing_highest, pg_SubThing_highest⟩
theorem hdd_TreeThing_upTo_ : yX24_upTo.cls ≠ "java/lang/invoke/MethodHandle" ∧ yX24_upTo.cls ≠ "java/lang/invoke/VarHandle" ∧ (parseMethodDescriptor yX24_upTo.desc).map (fun d => d.parameters.length) = some 2 := by decide +kernel
theorem mok_TreeThing_upTo : MOK m_TreeThing_upTo := ⟨by decide +kernel, by decide, cd_TreeThing_upTo, pg_TreeThing_upTo⟩
theorem hdd_TreeThing_last_ : yX24_last.cls ≠ "java/lang/invoke/MethodHandle" ∧ yX24_last.cls ≠ "java/lang/invoke/VarHandle" ∧ (parseMethodDescriptor yX24_last.desc).map (fun d => d.parameters.length) = some 0 := by decide +kernel
theorem hdd_TreeThing_from_ : yX24_from.cls ≠ "java/lang/invoke/MethodHandle" ∧ yX24_from.cls ≠ "java/lang/invoke/VarHandle" ∧ (parseMethodDescriptor yX24_from.desc).map (fun d => d.parameters.length) = some 2 := by decide +kernel
theorem mok_TreeThing_from : MOK m_TreeThing_from := ⟨by decide +kernel, by decide, cd_TreeThing_from, pg_TreeThing_from⟩
theorem hdd_TreeThing_first_ : yX24_first.cls ≠ "java/lang/invoke/MethodHandle" ∧ yX24_first.cls ≠ "java/lang/invoke/VarHandle" ∧ (parseMethodDescriptor yX24_first.desc).map (fun d => d.parameters.length) = some 0 := by decide +kernel
theorem hdd_TreeThing_before_ : yX24_before.cls ≠ "java/lang/invoke/MethodHandle" ∧ yX24_before.cls ≠ "java/lang/invoke/VarHandle" ∧ (parseMethodDescriptor yX24_before.desc).map (fun d => d.parameters.length) = some 1 := by decide +kernel
theorem mok_TreeThing_before : MOK m_TreeThing_before := ⟨by decide +kernel, by decide, cd_TreeThing_before, pg_TreeThing_before⟩
theorem hdd_TreeThing_next_ : yX24_next.cls ≠ "java/lang/invoke/MethodHandle" ∧ yX24_next.cls ≠ "java/lang/invoke/VarHandle" ∧ (parseMethodDescriptor yX24_next.desc).map (fun d => d.parameters.length) = some 1 := by decide +kernel
theorem gf_SubThing_120_34 : GF "LibraryDesk$SubThing" "LibraryDesk$TreeThing" "LibraryDesk" 120 0 314 34 := ⟨RX24, TX24, 10, 9, by decide, clr_34, in_X24, by decide, rfl, Or.inr nw1563, rfl⟩
theorem pf_SubThing_120_34 {m : Nat} : PF m "LibraryDesk$SubThing" "LibraryDesk$TreeThing" "LibraryDesk" 120 0 314 .int 34 := ⟨RX24, TX24, 10, 9, tyX24, by decide, clr_34, in_X24, tyX24_ok, nmX24, by decide, rfl, nd_34, Or.inr (Or.inl ⟨nw1563, rfl⟩), rfl, by decide +kernel⟩
theorem pf_SubThing_9_43 {m : Nat} : PF m "LibraryDesk$SubThing" "LibraryDesk$SubThing" "LibraryDesk" 9 2 347 (.object "LibraryDesk$Maps") 43 := ⟨RX33, TX33, 11, 3, tyX33, by decide, clr_43, in_X33, tyX33_ok, nmX33, by decide, rfl, nd_43, Or.inl ⟨q1786, rfl⟩, rfl, by decide +kernel⟩
theorem gf_SubThing_9_43 : GF "LibraryDesk$SubThing" "LibraryDesk$SubThing" "LibraryDesk" 9 2 347 43 := ⟨RX33, TX33, 11, 3, by decide, clr_43, in_X33, by decide, rfl, Or.inl q1786, rfl⟩
theorem pf_SubThing_21_43 {m : Nat} : PF m "LibraryDesk$SubThing" "LibraryDesk$SubThing" "LibraryDesk" 21 2 346 (.object "LibraryDesk$TreeThing") 43 := ⟨RX33, TX33, 11, 2, tyX33, by decide, clr_43, in_X33, tyX33_ok, nmX33, by decide, rfl, nd_43, Or.inl ⟨q1783, rfl⟩, rfl, by decide +kernel⟩
theorem pf_SubThing_25_43 {m : Nat} : PF m "LibraryDesk$SubThing" "LibraryDesk$SubThing" "LibraryDesk" 25 0 348 .boolean 43 := ⟨RX33, TX33, 11, 4, tyX33, by decide, clr_43, in_X33, tyX33_ok, nmX33, by decide, rfl, nd_43, Or.inl ⟨q1787, rfl⟩, rfl, by decide +kernel⟩
theorem pf_SubThing_32_43 {m : Nat} : PF m "LibraryDesk$SubThing" "LibraryDesk$SubThing" "LibraryDesk" 32 0 352 .boolean 43 := ⟨RX33, TX33, 11, 8, tyX33, by decide, clr_43, in_X33, tyX33_ok, nmX33, by decide, rfl, nd_43, Or.inl ⟨q1793, rfl⟩, rfl, by decide +kernel⟩
theorem pf_SubThing_29_43 {m : Nat} : PF m "LibraryDesk$SubThing" "LibraryDesk$SubThing" "LibraryDesk" 29 0 349 .boolean 43 := ⟨RX33, TX33, 11, 5, tyX33, by decide, clr_43, in_X33, tyX33_ok, nmX33, by decide, rfl, nd_43, Or.inl ⟨q1790, rfl⟩, rfl, by decide +kernel⟩
theorem pf_SubThing_35_43 {m : Nat} : PF m "LibraryDesk$SubThing" "LibraryDesk$SubThing" "LibraryDesk" 35 0 350 .int 43 := ⟨RX33, TX33, 11, 6, tyX33, by decide, clr_43, in_X33, tyX33_ok, nmX33, by decide, rfl, nd_43, Or.inl ⟨q1791, rfl⟩, rfl, by decide +kernel⟩
theorem pf_SubThing_39_43 {m : Nat} : PF m "LibraryDesk$SubThing" "LibraryDesk$SubThing" "LibraryDesk" 39 0 351 .boolean 43 := ⟨RX33, TX33, 11, 7, tyX33, by decide, clr_43, in_X33, tyX33_ok, nmX33, by decide, rfl, nd_43, Or.inl ⟨q1792, rfl⟩, rfl, by decide +kernel⟩
theorem pf_SubThing_42_43 {m : Nat} : PF m "LibraryDesk$SubThing" "LibraryDesk$SubThing" "LibraryDesk" 42 0 353 .int 43 := ⟨RX33, TX33, 11, 9, tyX33, by decide, clr_43, in_X33, tyX33_ok, nmX33, by decide, rfl, nd_43, Or.inl ⟨q1794, rfl⟩, rfl, by decide +kernel⟩
theorem pf_SubThing_45_43 {m : Nat} : PF m "LibraryDesk$SubThing" "LibraryDesk$SubThing" "LibraryDesk" 45 0 354 .boolean 43 := ⟨RX33, TX33, 11, 10, tyX33, by decide, clr_43, in_X33, tyX33_ok, nmX33, by decide, rfl, nd_43, Or.inl ⟨q1795, rfl⟩, rfl, by decide +kernel⟩
theorem hdd_SubThing_below_ : yX33_below.cls ≠ "java/lang/invoke/MethodHandle" ∧ yX33_below.cls ≠ "java/lang/invoke/VarHandle" ∧ (parseMethodDescriptor yX33_below.desc).map (fun d => d.parameters.length) = some 2 := by decide +kernel
theorem mok_SubThing_below : MOK m_SubThing_below := ⟨by decide +kernel, by decide, cd_SubThing_below, pg_SubThing_below⟩
theorem hdd_SubThing_above_ : yX33_above.cls ≠ "java/lang/invoke/MethodHandle" ∧ yX33_above.cls ≠ "java/lang/invoke/VarHandle" ∧ (parseMethodDescriptor yX33_above.desc).map (fun d => d.parameters.length) = some 2 := by decide +kernel
theorem mok_SubThing_above : MOK m_SubThing_above := ⟨by decide +kernel, by decide, cd_SubThing_above, pg_SubThing_above⟩
theorem pf_SyncThing_init_14_44 : PF m_SyncThing_init "LibraryDesk$SyncThing" "LibraryDesk$SyncThing" "LibraryDesk" 14 2 359 (.object "LibraryDesk$Row") 44 := ⟨RX34, TX34, 10, 6, tyX34, by decide, clr_44, in_X34, tyX34_ok, nmX34, by decide, rfl, nd_44, Or.inr (Or.inr ⟨q1847, rfl, rfl, rfl⟩), rfl, by decide +kernel⟩
theorem hdd_Row_init_ : yX35_init.cls ≠ "java/lang/invoke/MethodHandle" ∧ yX35_init.cls ≠ "java/lang/invoke/VarHandle" ∧ (parseMethodDescriptor yX35_init.desc).map (fun d => d.parameters.length) = some 0 := by decide +kernel
theorem mok_Row_init : MOK m_Row_init := ⟨by decide +kernel, by decide, cd_Row_init, pg_Row_init⟩
theorem nf_SyncThing_9 : NF "LibraryDesk$SyncThing" 9 45 2 := ⟨RX35, TX35, tyX35, by decide, clr_45, in_X35, tyX35_ok, q1823, q1152, q551, by decide +kernel⟩
theorem pf_SyncThing_init_20_44 : PF m_SyncThing_init "LibraryDesk$SyncThing" "LibraryDesk$SyncThing" "LibraryDesk" 20 2 360 (.object "LibraryDesk$Row") 44 := ⟨RX34, TX34, 10, 7, tyX34, by decide, clr_44, in_X34, tyX34_ok, nmX34, by decide, rfl, nd_44, Or.inr (Or.inr ⟨q1850, rfl, rfl, rfl⟩), rfl, by decide +kernel⟩
theorem pf_SyncThing_init_23_44 : PF m_SyncThing_init "LibraryDesk$SyncThing" "LibraryDesk$SyncThing" "LibraryDesk" 23 2 361 (.array .int) 44 := ⟨RX34, TX34, 10, 8, tyX34, by decide, clr_44, in_X34, tyX34_ok, nmX34, by decide, rfl, nd_44, Or.inr (Or.inr ⟨q1853, rfl, rfl, rfl⟩), rfl, by decide +kernel⟩
theorem pf_SyncThing_31_44 {m : Nat} : PF m "LibraryDesk$SyncThing" "LibraryDesk$SyncThing" "LibraryDesk" 31 0 355 .int 44 := ⟨RX34, TX34, 10, 2, tyX34, by decide, clr_44, in_X34, tyX34_ok, nmX34, by decide, rfl, nd_44, Or.inl ⟨q1839, rfl⟩, rfl, by decide +kernel⟩
theorem pf_SyncThing_35_44 {m : Nat} : PF m "LibraryDesk$SyncThing" "LibraryDesk$SyncThing" "LibraryDesk" 35 0 356 .int 44 := ⟨RX34, TX34, 10, 3, tyX34, by decide, clr_44, in_X34, tyX34_ok, nmX34, by decide, rfl, nd_44, Or.inl ⟨q1841, rfl⟩, rfl, by decide +kernel⟩
theorem pf_SyncThing_38_44 {m : Nat} : PF m "LibraryDesk$SyncThing" "LibraryDesk$SyncThing" "LibraryDesk" 38 0 357 .boolean 44 := ⟨RX34, TX34, 10, 4, tyX34, by decide, clr_44, in_X34, tyX34_ok, nmX34, by decide, rfl, nd_44, Or.inl ⟨q1843, rfl⟩, rfl, by decide +kernel⟩
theorem pf_SyncThing_42_44 {m : Nat} : PF m "LibraryDesk$SyncThing" "LibraryDesk$SyncThing" "LibraryDesk" 42 0 358 .int 44 := ⟨RX34, TX34, 10, 5, tyX34, by decide, clr_44, in_X34, tyX34_ok, nmX34, by decide, rfl, nd_44, Or.inl ⟨q1845, rfl⟩, rfl, by decide +kernel⟩
theorem gf_SyncThing_20_44 : GF "LibraryDesk$SyncThing" "LibraryDesk$SyncThing" "LibraryDesk" 20 2 360 44 := ⟨RX34, TX34, 10, 7, by decide, clr_44, in_X34, by decide, rfl, Or.inl q1850, rfl⟩
theorem nd_45 : va_nd ((flT 45).map (·.2)) = true := by decide +kernel
theorem pf_SyncThing_45_45 {m : Nat} : PF m "LibraryDesk$SyncThing" "LibraryDesk$Row" "LibraryDesk" 45 0 364 .int 45 := ⟨RX35, TX35, 2, 1, tyX35, by decide, clr_45, in_X35, tyX35_ok, nmX35, by decide, rfl, nd_45, Or.inr (Or.inl ⟨nw1831, rfl⟩), rfl, by decide +kernel⟩
theorem gf_SyncThing_14_44 : GF "LibraryDesk$SyncThing" "LibraryDesk$SyncThing" "LibraryDesk" 14 2 359 44 := ⟨RX34, TX34, 10, 6, by decide, clr_44, in_X34, by decide, rfl, Or.inl q1847, rfl⟩
theorem pf_SyncThing_48_44 {m : Nat} : PF m "LibraryDesk$SyncThing" "LibraryDesk$SyncThing" "LibraryDesk" 48 0 362 .int 44 := ⟨RX34, TX34, 10, 9, tyX34, by decide, clr_44, in_X34, tyX34_ok, nmX34, by decide, rfl, nd_44, Or.inl ⟨q1854, rfl⟩, rfl, by decide +kernel⟩
theorem gf_SyncThing_23_44 : GF "LibraryDesk$SyncThing" "LibraryDesk$SyncThing" "LibraryDesk" 23 2 361 44 := ⟨RX34, TX34, 10, 8, by decide, clr_44, in_X34, by decide, rfl, Or.inl q1853, rfl⟩
theorem gf_SyncThing_48_44 : GF "LibraryDesk$SyncThing" "LibraryDesk$SyncThing" "LibraryDesk" 48 0 362 44 := ⟨RX34, TX34, 10, 9, by decide, clr_44, in_X34, by decide, rfl, Or.inl q1854, rfl⟩
theorem gf_Row_7_45 : GF "LibraryDesk$Row" "LibraryDesk$Row" "LibraryDesk" 7 2 363 45 := ⟨RX35, TX35, 2, 0, by decide, clr_45, in_X35, by decide, rfl, Or.inl q1828, rfl⟩
theorem gf_Row_13_45 : GF "LibraryDesk$Row" "LibraryDesk$Row" "LibraryDesk" 13 0 364 45 := ⟨RX35, TX35, 2, 1, by decide, clr_45, in_X35, by decide, rfl, Or.inl q1830, rfl⟩
theorem pf_Row_init_7_45 : PF m_Row_init "LibraryDesk$Row" "LibraryDesk$Row" "LibraryDesk" 7 2 363 (.array .int) 45 := ⟨RX35, TX35, 2, 0, tyX35, by decide, clr_45, in_X35, tyX35_ok, nmX35, by decide, rfl, nd_45, Or.inr (Or.inr ⟨q1828, rfl, rfl, rfl⟩), rfl, by decide +kernel⟩
theorem pf_Row_13_45 {m : Nat} : PF m "LibraryDesk$Row" "LibraryDesk$Row" "LibraryDesk" 13 0 364 .int 45 := ⟨RX35, TX35, 2, 1, tyX35, by decide, clr_45, in_X35, tyX35_ok, nmX35, by decide, rfl, nd_45, Or.inl ⟨q1830, rfl⟩, rfl, by decide +kernel⟩
theorem hdd_Orders_rising_ : yX36_rising.cls ≠ "java/lang/invoke/MethodHandle" ∧ yX36_rising.cls ≠ "java/lang/invoke/VarHandle" ∧ (parseMethodDescriptor yX36_rising.desc).map (fun d => d.parameters.length) = some 2 := by decide +kernel
theorem mok_Orders_rising : MOK m_Orders_rising := ⟨by decide +kernel, by decide, cd_Orders_rising, pg_Orders_rising⟩
theorem hdd_SubThing_compare_ : yX33_compare.cls ≠ "java/lang/invoke/MethodHandle" ∧ yX33_compare.cls ≠ "java/lang/invoke/VarHandle" ∧ (parseMethodDescriptor yX33_compare.desc).map (fun d => d.parameters.length) = some 2 := by decide +kernel
theorem mok_SubThing_compare : MOK m_SubThing_compare := ⟨by decide +kernel, by decide, cd_SubThing_compare, pg_SubThing_compare⟩
theorem gf_Near_24_43 : GF "LibraryDesk$Nea\x72" "LibraryDesk$SubThing" "LibraryDesk" 24 2 346 43 := ⟨RX33, TX33, 11, 2, by decide, clr_43, in_X33, by decide, rfl, Or.inr nw1784, rfl⟩
theorem gf_Near_28_43 : GF "LibraryDesk$Nea\x72" "LibraryDesk$SubThing" "LibraryDesk" 28 0 348 43 := ⟨RX33, TX33, 11, 4, by decide, clr_43, in_X33, by decide, rfl, Or.inr nw1788, rfl⟩
theorem hdd_Days_isLeap_ : yX41_isLeap.cls ≠ "java/lang/invoke/MethodHandle" ∧ yX41_isLeap.cls ≠ "java/lang/invoke/VarHandle" ∧ (parseMethodDescriptor yX41_isLeap.desc).map (fun d => d.parameters.length) = some 1 := by decide +kernel
theorem mok_Days_isLeap : MOK m_Days_isLeap := ⟨by decide +kernel, by decide, cd_Days_isLeap, pg_Days_isLeap⟩
theorem hdd_Days_before_ : yX41_before.cls ≠ "java/lang/invoke/MethodHandle" ∧ yX41_before.cls ≠ "java/lang/invoke/VarHandle" ∧ (parseMethodDescriptor yX41_before.desc).map (fun d => d.parameters.length) = some 1 := by decide +kernel
theorem mok_Days_before : MOK m_Days_before := ⟨by decide +kernel, by decide, cd_Days_before, pg_Days_before⟩
theorem hdd_Days_floor_ : yX41_floor.cls ≠ "java/lang/invoke/MethodHandle" ∧ yX41_floor.cls ≠ "java/lang/invoke/VarHandle" ∧ (parseMethodDescriptor yX41_floor.desc).map (fun d => d.parameters.length) = some 2 := by decide +kernel
theorem mok_Days_floor : MOK m_Days_floor := ⟨by decide +kernel, by decide, cd_Days_floor, pg_Days_floor⟩
theorem hdd_Days_year_ : yX41_year.cls ≠ "java/lang/invoke/MethodHandle" ∧ yX41_year.cls ≠ "java/lang/invoke/VarHandle" ∧ (parseMethodDescriptor yX41_year.desc).map (fun d => d.parameters.length) = some 1 := by decide +kernel
theorem mok_Days_year : MOK m_Days_year := ⟨by decide +kernel, by decide, cd_Days_year, pg_Days_year⟩
theorem hdd_Days_month_ : yX41_month.cls ≠ "java/lang/invoke/MethodHandle" ∧ yX41_month.cls ≠ "java/lang/invoke/VarHandle" ∧ (parseMethodDescriptor yX41_month.desc).map (fun d => d.parameters.length) = some 1 := by decide +kernel
theorem mok_Days_month : MOK m_Days_month := ⟨by decide +kernel, by decide, cd_Days_month, pg_Days_month⟩
theorem hdd_Days_dayOfMonth_ : yX41_dayOfMonth.cls ≠ "java/lang/invoke/MethodHandle" ∧ yX41_dayOfMonth.cls ≠ "java/lang/invoke/VarHandle" ∧ (parseMethodDescriptor yX41_dayOfMonth.desc).map (fun d => d.parameters.length) = some 1 := by decide +kernel
theorem mok_Days_dayOfMonth : MOK m_Days_dayOfMonth := ⟨by decide +kernel, by decide, cd_Days_dayOfMonth, pg_Days_dayOfMonth⟩
theorem hdd_Days_weekDay_ : yX41_weekDay.cls ≠ "java/lang/invoke/MethodHandle" ∧ yX41_weekDay.cls ≠ "java/lang/invoke/VarHandle" ∧ (parseMethodDescriptor yX41_weekDay.desc).map (fun d => d.parameters.length) = some 1 := by decide +kernel
theorem mok_Days_weekDay : MOK m_Days_weekDay := ⟨by decide +kernel, by decide, cd_Days_weekDay, pg_Days_weekDay⟩
theorem hdd_Days_thursday_ : yX41_thursday.cls ≠ "java/lang/invoke/MethodHandle" ∧ yX41_thursday.cls ≠ "java/lang/invoke/VarHandle" ∧ (parseMethodDescriptor yX41_thursday.desc).map (fun d => d.parameters.length) = some 1 := by decide +kernel
theorem mok_Days_thursday : MOK m_Days_thursday := ⟨by decide +kernel, by decide, cd_Days_thursday, pg_Days_thursday⟩
theorem hdd_Desk_init_ : yX1_init.cls ≠ "java/lang/invoke/MethodHandle" ∧ yX1_init.cls ≠ "java/lang/invoke/VarHandle" ∧ (parseMethodDescriptor yX1_init.desc).map (fun d => d.parameters.length) = some 0 := by decide +kernel
theorem mok_Desk_init : MOK m_Desk_init := ⟨by decide +kernel, by decide, cd_Desk_init, pg_Desk_init⟩
theorem nf_Law_8 : NF "LibraryDeskLaw" 8 11 21 := ⟨RX1, TX1, tyX1, by decide, clr_11, in_X1, tyX1_ok, q570, q571, q508, by decide +kernel⟩
theorem hdd_Md_init_ : yX14_init.cls ≠ "java/lang/invoke/MethodHandle" ∧ yX14_init.cls ≠ "java/lang/invoke/VarHandle" ∧ (parseMethodDescriptor yX14_init.desc).map (fun d => d.parameters.length) = some 0 := by decide +kernel
theorem mok_Md_init : MOK m_Md_init := ⟨by decide +kernel, by decide, cd_Md_init, pg_Md_init⟩
theorem nf_Law_158 : NF "LibraryDeskLaw" 158 24 131 := ⟨RX14, TX14, tyX14, by decide, clr_24, in_X14, tyX14_ok, q4484, q4485, q521, by decide +kernel⟩
theorem hdd_Law_feed_ : yX0_feed.cls ≠ "java/lang/invoke/MethodHandle" ∧ yX0_feed.cls ≠ "java/lang/invoke/VarHandle" ∧ (parseMethodDescriptor yX0_feed.desc).map (fun d => d.parameters.length) = some 7 := by decide +kernel
theorem mok_Law_feed : MOK m_Law_feed := ⟨by decide +kernel, by decide, cd_Law_feed, pg_Law_feed⟩
theorem hdd_Md_feed_ : yX14_feed.cls ≠ "java/lang/invoke/MethodHandle" ∧ yX14_feed.cls ≠ "java/lang/invoke/VarHandle" ∧ (parseMethodDescriptor yX14_feed.desc).map (fun d => d.parameters.length) = some 5 := by decide +kernel
theorem mok_Md_feed : MOK m_Md_feed := ⟨by decide +kernel, by decide, cd_Md_feed, pg_Md_feed⟩
theorem hdd_Md_thrown_ : yX14_thrown.cls ≠ "java/lang/invoke/MethodHandle" ∧ yX14_thrown.cls ≠ "java/lang/invoke/VarHandle" ∧ (parseMethodDescriptor yX14_thrown.desc).map (fun d => d.parameters.length) = some 0 := by decide +kernel
theorem mok_Md_thrown : MOK m_Md_thrown := ⟨by decide +kernel, by decide, cd_Md_thrown, pg_Md_thrown⟩
theorem hdd_Law_end_ : yX0_end.cls ≠ "java/lang/invoke/MethodHandle" ∧ yX0_end.cls ≠ "java/lang/invoke/VarHandle" ∧ (parseMethodDescriptor yX0_end.desc).map (fun d => d.parameters.length) = some 3 := by decide +kernel
theorem mok_Law_end : MOK m_Law_end := ⟨by decide +kernel, by decide, cd_Law_end, pg_Law_end⟩
theorem hdd_Md_end_ : yX14_end.cls ≠ "java/lang/invoke/MethodHandle" ∧ yX14_end.cls ≠ "java/lang/invoke/VarHandle" ∧ (parseMethodDescriptor yX14_end.desc).map (fun d => d.parameters.length) = some 1 := by decide +kernel
theorem mok_Md_end : MOK m_Md_end := ⟨by decide +kernel, by decide, cd_Md_end, pg_Md_end⟩
theorem hdd_Law_make_ : yX0_make.cls ≠ "java/lang/invoke/MethodHandle" ∧ yX0_make.cls ≠ "java/lang/invoke/VarHandle" ∧ (parseMethodDescriptor yX0_make.desc).map (fun d => d.parameters.length) = some 5 := by decide +kernel
theorem mok_Law_make : MOK m_Law_make := ⟨by decide +kernel, by decide, cd_Law_make, pg_Law_make⟩
theorem hdd_Md_make_ : yX14_make.cls ≠ "java/lang/invoke/MethodHandle" ∧ yX14_make.cls ≠ "java/lang/invoke/VarHandle" ∧ (parseMethodDescriptor yX14_make.desc).map (fun d => d.parameters.length) = some 3 := by decide +kernel
theorem mok_Md_make : MOK m_Md_make := ⟨by decide +kernel, by decide, cd_Md_make, pg_Md_make⟩
theorem hdd_Law_drop_ : yX0_drop.cls ≠ "java/lang/invoke/MethodHandle" ∧ yX0_drop.cls ≠ "java/lang/invoke/VarHandle" ∧ (parseMethodDescriptor yX0_drop.desc).map (fun d => d.parameters.length) = some 3 := by decide +kernel
theorem mok_Law_drop : MOK m_Law_drop := ⟨by decide +kernel, by decide, cd_Law_drop, pg_Law_drop⟩
theorem hdd_Md_drop_ : yX14_drop.cls ≠ "java/lang/invoke/MethodHandle" ∧ yX14_drop.cls ≠ "java/lang/invoke/VarHandle" ∧ (parseMethodDescriptor yX14_drop.desc).map (fun d => d.parameters.length) = some 1 := by decide +kernel
theorem mok_Md_drop : MOK m_Md_drop := ⟨by decide +kernel, by decide, cd_Md_drop, pg_Md_drop⟩
theorem hdd_Law_list_ : yX0_list.cls ≠ "java/lang/invoke/MethodHandle" ∧ yX0_list.cls ≠ "java/lang/invoke/VarHandle" ∧ (parseMethodDescriptor yX0_list.desc).map (fun d => d.parameters.length) = some 6 := by decide +kernel
theorem mok_Law_list : MOK m_Law_list := ⟨by decide +kernel, by decide, cd_Law_list, pg_Law_list⟩
theorem hdd_Md_list_ : yX14_list.cls ≠ "java/lang/invoke/MethodHandle" ∧ yX14_list.cls ≠ "java/lang/invoke/VarHandle" ∧ (parseMethodDescriptor yX14_list.desc).map (fun d => d.parameters.length) = some 4 := by decide +kernel
theorem mok_Md_list : MOK m_Md_list := ⟨by decide +kernel, by decide, cd_Md_list, pg_Md_list⟩
theorem hdd_Law_ring_ : yX0_ring.cls ≠ "java/lang/invoke/MethodHandle" ∧ yX0_ring.cls ≠ "java/lang/invoke/VarHandle" ∧ (parseMethodDescriptor yX0_ring.desc).map (fun d => d.parameters.length) = some 5 := by decide +kernel
theorem mok_Law_ring : MOK m_Law_ring := ⟨by decide +kernel, by decide, cd_Law_ring, pg_Law_ring⟩
theorem hdd_Md_ring_ : yX14_ring.cls ≠ "java/lang/invoke/MethodHandle" ∧ yX14_ring.cls ≠ "java/lang/invoke/VarHandle" ∧ (parseMethodDescriptor yX14_ring.desc).map (fun d => d.parameters.length) = some 3 := by decide +kernel
theorem mok_Md_ring : MOK m_Md_ring := ⟨by decide +kernel, by decide, cd_Md_ring, pg_Md_ring⟩
theorem hdd_Law_map_ : yX0_map.cls ≠ "java/lang/invoke/MethodHandle" ∧ yX0_map.cls ≠ "java/lang/invoke/VarHandle" ∧ (parseMethodDescriptor yX0_map.desc).map (fun d => d.parameters.length) = some 6 := by decide +kernel
theorem mok_Law_map : MOK m_Law_map := ⟨by decide +kernel, by decide, cd_Law_map, pg_Law_map⟩
theorem hdd_Md_map_ : yX14_map.cls ≠ "java/lang/invoke/MethodHandle" ∧ yX14_map.cls ≠ "java/lang/invoke/VarHandle" ∧ (parseMethodDescriptor yX14_map.desc).map (fun d => d.parameters.length) = some 4 := by decide +kernel
theorem mok_Md_map : MOK m_Md_map := ⟨by decide +kernel, by decide, cd_Md_map, pg_Md_map⟩
theorem hdd_Law_view_ : yX0_view.cls ≠ "java/lang/invoke/MethodHandle" ∧ yX0_view.cls ≠ "java/lang/invoke/VarHandle" ∧ (parseMethodDescriptor yX0_view.desc).map (fun d => d.parameters.length) = some 6 := by decide +kernel
theorem mok_Law_view : MOK m_Law_view := ⟨by decide +kernel, by decide, cd_Law_view, pg_Law_view⟩
theorem hdd_Md_view_ : yX14_view.cls ≠ "java/lang/invoke/MethodHandle" ∧ yX14_view.cls ≠ "java/lang/invoke/VarHandle" ∧ (parseMethodDescriptor yX14_view.desc).map (fun d => d.parameters.length) = some 4 := by decide +kernel
theorem mok_Md_view : MOK m_Md_view := ⟨by decide +kernel, by decide, cd_Md_view, pg_Md_view⟩
theorem hdd_Law_cursor_ : yX0_cursor.cls ≠ "java/lang/invoke/MethodHandle" ∧ yX0_cursor.cls ≠ "java/lang/invoke/VarHandle" ∧ (parseMethodDescriptor yX0_cursor.desc).map (fun d => d.parameters.length) = some 3 := by decide +kernel
theorem mok_Law_cursor : MOK m_Law_cursor := ⟨by decide +kernel, by decide, cd_Law_cursor, pg_Law_cursor⟩
theorem hdd_Md_cursor_ : yX14_cursor.cls ≠ "java/lang/invoke/MethodHandle" ∧ yX14_cursor.cls ≠ "java/lang/invoke/VarHandle" ∧ (parseMethodDescriptor yX14_cursor.desc).map (fun d => d.parameters.length) = some 1 := by decide +kernel
theorem mok_Md_cursor : MOK m_Md_cursor := ⟨by decide +kernel, by decide, cd_Md_cursor, pg_Md_cursor⟩
theorem hdd_Law_move_ : yX0_move.cls ≠ "java/lang/invoke/MethodHandle" ∧ yX0_move.cls ≠ "java/lang/invoke/VarHandle" ∧ (parseMethodDescriptor yX0_move.desc).map (fun d => d.parameters.length) = some 5 := by decide +kernel
theorem mok_Law_move : MOK m_Law_move := ⟨by decide +kernel, by decide, cd_Law_move, pg_Law_move⟩
theorem hdd_Md_move_ : yX14_move.cls ≠ "java/lang/invoke/MethodHandle" ∧ yX14_move.cls ≠ "java/lang/invoke/VarHandle" ∧ (parseMethodDescriptor yX14_move.desc).map (fun d => d.parameters.length) = some 3 := by decide +kernel
theorem mok_Md_move : MOK m_Md_move := ⟨by decide +kernel, by decide, cd_Md_move, pg_Md_move⟩
theorem hdd_Law_heap_ : yX0_heap.cls ≠ "java/lang/invoke/MethodHandle" ∧ yX0_heap.cls ≠ "java/lang/invoke/VarHandle" ∧ (parseMethodDescriptor yX0_heap.desc).map (fun d => d.parameters.length) = some 5 := by decide +kernel
theorem mok_Law_heap : MOK m_Law_heap := ⟨by decide +kernel, by decide, cd_Law_heap, pg_Law_heap⟩
theorem hdd_Md_heap_ : yX14_heap.cls ≠ "java/lang/invoke/MethodHandle" ∧ yX14_heap.cls ≠ "java/lang/invoke/VarHandle" ∧ (parseMethodDescriptor yX14_heap.desc).map (fun d => d.parameters.length) = some 3 := by decide +kernel
theorem mok_Md_heap : MOK m_Md_heap := ⟨by decide +kernel, by decide, cd_Md_heap, pg_Md_heap⟩
theorem hdd_Law_bits_ : yX0_bits.cls ≠ "java/lang/invoke/MethodHandle" ∧ yX0_bits.cls ≠ "java/lang/invoke/VarHandle" ∧ (parseMethodDescriptor yX0_bits.desc).map (fun d => d.parameters.length) = some 6 := by decide +kernel
theorem mok_Law_bits : MOK m_Law_bits := ⟨by decide +kernel, by decide, cd_Law_bits, pg_Law_bits⟩
theorem hdd_Md_bits_ : yX14_bits.cls ≠ "java/lang/invoke/MethodHandle" ∧ yX14_bits.cls ≠ "java/lang/invoke/VarHandle" ∧ (parseMethodDescriptor yX14_bits.desc).map (fun d => d.parameters.length) = some 4 := by decide +kernel
theorem mok_Md_bits : MOK m_Md_bits := ⟨by decide +kernel, by decide, cd_Md_bits, pg_Md_bits⟩
theorem hdd_Law_item_ : yX0_item.cls ≠ "java/lang/invoke/MethodHandle" ∧ yX0_item.cls ≠ "java/lang/invoke/VarHandle" ∧ (parseMethodDescriptor yX0_item.desc).map (fun d => d.parameters.length) = some 5 := by decide +kernel
theorem mok_Law_item : MOK m_Law_item := ⟨by decide +kernel, by decide, cd_Law_item, pg_Law_item⟩
theorem hdd_Md_item_ : yX14_item.cls ≠ "java/lang/invoke/MethodHandle" ∧ yX14_item.cls ≠ "java/lang/invoke/VarHandle" ∧ (parseMethodDescriptor yX14_item.desc).map (fun d => d.parameters.length) = some 3 := by decide +kernel
theorem mok_Md_item : MOK m_Md_item := ⟨by decide +kernel, by decide, cd_Md_item, pg_Md_item⟩
theorem hdd_Law_text_ : yX0_text.cls ≠ "java/lang/invoke/MethodHandle" ∧ yX0_text.cls ≠ "java/lang/invoke/VarHandle" ∧ (parseMethodDescriptor yX0_text.desc).map (fun d => d.parameters.length) = some 6 := by decide +kernel
theorem mok_Law_text : MOK m_Law_text := ⟨by decide +kernel, by decide, cd_Law_text, pg_Law_text⟩
theorem hdd_Md_text_ : yX14_text.cls ≠ "java/lang/invoke/MethodHandle" ∧ yX14_text.cls ≠ "java/lang/invoke/VarHandle" ∧ (parseMethodDescriptor yX14_text.desc).map (fun d => d.parameters.length) = some 4 := by decide +kernel
theorem mok_Md_text : MOK m_Md_text := ⟨by decide +kernel, by decide, cd_Md_text, pg_Md_text⟩
theorem hdd_Law_pattern_ : yX0_pattern.cls ≠ "java/lang/invoke/MethodHandle" ∧ yX0_pattern.cls ≠ "java/lang/invoke/VarHandle" ∧ (parseMethodDescriptor yX0_pattern.desc).map (fun d => d.parameters.length) = some 2 := by decide +kernel
theorem mok_Law_pattern : MOK m_Law_pattern := ⟨by decide +kernel, by decide, cd_Law_pattern, pg_Law_pattern⟩
theorem hdd_Md_pattern_ : yX14_pattern.cls ≠ "java/lang/invoke/MethodHandle" ∧ yX14_pattern.cls ≠ "java/lang/invoke/VarHandle" ∧ (parseMethodDescriptor yX14_pattern.desc).map (fun d => d.parameters.length) = some 0 := by decide +kernel
theorem mok_Md_pattern : MOK m_Md_pattern := ⟨by decide +kernel, by decide, cd_Md_pattern, pg_Md_pattern⟩
theorem hdd_Law_match_ : yX0_match.cls ≠ "java/lang/invoke/MethodHandle" ∧ yX0_match.cls ≠ "java/lang/invoke/VarHandle" ∧ (parseMethodDescriptor yX0_match.desc).map (fun d => d.parameters.length) = some 6 := by decide +kernel
theorem mok_Law_match : MOK m_Law_match := ⟨by decide +kernel, by decide, cd_Law_match, pg_Law_match⟩
theorem hdd_Md_match_ : yX14_match.cls ≠ "java/lang/invoke/MethodHandle" ∧ yX14_match.cls ≠ "java/lang/invoke/VarHandle" ∧ (parseMethodDescriptor yX14_match.desc).map (fun d => d.parameters.length) = some 4 := by decide +kernel
theorem mok_Md_match : MOK m_Md_match := ⟨by decide +kernel, by decide, cd_Md_match, pg_Md_match⟩
theorem hdd_Law_group_ : yX0_group.cls ≠ "java/lang/invoke/MethodHandle" ∧ yX0_group.cls ≠ "java/lang/invoke/VarHandle" ∧ (parseMethodDescriptor yX0_group.desc).map (fun d => d.parameters.length) = some 4 := by decide +kernel
theorem mok_Law_group : MOK m_Law_group := ⟨by decide +kernel, by decide, cd_Law_group, pg_Law_group⟩
theorem hdd_Md_group_ : yX14_group.cls ≠ "java/lang/invoke/MethodHandle" ∧ yX14_group.cls ≠ "java/lang/invoke/VarHandle" ∧ (parseMethodDescriptor yX14_group.desc).map (fun d => d.parameters.length) = some 2 := by decide +kernel
theorem mok_Md_group : MOK m_Md_group := ⟨by decide +kernel, by decide, cd_Md_group, pg_Md_group⟩
theorem hdd_Law_replace_ : yX0_replace.cls ≠ "java/lang/invoke/MethodHandle" ∧ yX0_replace.cls ≠ "java/lang/invoke/VarHandle" ∧ (parseMethodDescriptor yX0_replace.desc).map (fun d => d.parameters.length) = some 4 := by decide +kernel
theorem mok_Law_replace : MOK m_Law_replace := ⟨by decide +kernel, by decide, cd_Law_replace, pg_Law_replace⟩
theorem hdd_Md_replace_ : yX14_replace.cls ≠ "java/lang/invoke/MethodHandle" ∧ yX14_replace.cls ≠ "java/lang/invoke/VarHandle" ∧ (parseMethodDescriptor yX14_replace.desc).map (fun d => d.parameters.length) = some 2 := by decide +kernel
theorem mok_Md_replace : MOK m_Md_replace := ⟨by decide +kernel, by decide, cd_Md_replace, pg_Md_replace⟩
theorem hdd_Law_form_ : yX0_form.cls ≠ "java/lang/invoke/MethodHandle" ∧ yX0_form.cls ≠ "java/lang/invoke/VarHandle" ∧ (parseMethodDescriptor yX0_form.desc).map (fun d => d.parameters.length) = some 3 := by decide +kernel
theorem mok_Law_form : MOK m_Law_form := ⟨by decide +kernel, by decide, cd_Law_form, pg_Law_form⟩
theorem hdd_Md_form_ : yX14_form.cls ≠ "java/lang/invoke/MethodHandle" ∧ yX14_form.cls ≠ "java/lang/invoke/VarHandle" ∧ (parseMethodDescriptor yX14_form.desc).map (fun d => d.parameters.length) = some 1 := by decide +kernel
theorem mok_Md_form : MOK m_Md_form := ⟨by decide +kernel, by decide, cd_Md_form, pg_Md_form⟩
theorem hdd_Law_set_ : yX0_set.cls ≠ "java/lang/invoke/MethodHandle" ∧ yX0_set.cls ≠ "java/lang/invoke/VarHandle" ∧ (parseMethodDescriptor yX0_set.desc).map (fun d => d.parameters.length) = some 4 := by decide +kernel
theorem mok_Law_set : MOK m_Law_set := ⟨by decide +kernel, by decide, cd_Law_set, pg_Law_set⟩
theorem hdd_Md_set_ : yX14_set.cls ≠ "java/lang/invoke/MethodHandle" ∧ yX14_set.cls ≠ "java/lang/invoke/VarHandle" ∧ (parseMethodDescriptor yX14_set.desc).map (fun d => d.parameters.length) = some 2 := by decide +kernel
theorem mok_Md_set : MOK m_Md_set := ⟨by decide +kernel, by decide, cd_Md_set, pg_Md_set⟩
theorem hdd_Law_whole_ : yX0_whole.cls ≠ "java/lang/invoke/MethodHandle" ∧ yX0_whole.cls ≠ "java/lang/invoke/VarHandle" ∧ (parseMethodDescriptor yX0_whole.desc).map (fun d => d.parameters.length) = some 6 := by decide +kernel
theorem mok_Law_whole : MOK m_Law_whole := ⟨by decide +kernel, by decide, cd_Law_whole, pg_Law_whole⟩
theorem hdd_Md_whole_ : yX14_whole.cls ≠ "java/lang/invoke/MethodHandle" ∧ yX14_whole.cls ≠ "java/lang/invoke/VarHandle" ∧ (parseMethodDescriptor yX14_whole.desc).map (fun d => d.parameters.length) = some 4 := by decide +kernel
theorem mok_Md_whole : MOK m_Md_whole := ⟨by decide +kernel, by decide, cd_Md_whole, pg_Md_whole⟩
theorem hdd_Law_decimal_ : yX0_decimal.cls ≠ "java/lang/invoke/MethodHandle" ∧ yX0_decimal.cls ≠ "java/lang/invoke/VarHandle" ∧ (parseMethodDescriptor yX0_decimal.desc).map (fun d => d.parameters.length) = some 7 := by decide +kernel
theorem mok_Law_decimal : MOK m_Law_decimal := ⟨by decide +kernel, by decide, cd_Law_decimal, pg_Law_decimal⟩
theorem hdd_Md_decimal_ : yX14_decimal.cls ≠ "java/lang/invoke/MethodHandle" ∧ yX14_decimal.cls ≠ "java/lang/invoke/VarHandle" ∧ (parseMethodDescriptor yX14_decimal.desc).map (fun d => d.parameters.length) = some 5 := by decide +kernel
theorem mok_Md_decimal : MOK m_Md_decimal := ⟨by decide +kernel, by decide, cd_Md_decimal, pg_Md_decimal⟩
theorem hdd_Law_tell_ : yX0_tell.cls ≠ "java/lang/invoke/MethodHandle" ∧ yX0_tell.cls ≠ "java/lang/invoke/VarHandle" ∧ (parseMethodDescriptor yX0_tell.desc).map (fun d => d.parameters.length) = some 4 := by decide +kernel
theorem mok_Law_tell : MOK m_Law_tell := ⟨by decide +kernel, by decide, cd_Law_tell, pg_Law_tell⟩
theorem hdd_Md_tell_ : yX14_tell.cls ≠ "java/lang/invoke/MethodHandle" ∧ yX14_tell.cls ≠ "java/lang/invoke/VarHandle" ∧ (parseMethodDescriptor yX14_tell.desc).map (fun d => d.parameters.length) = some 2 := by decide +kernel
theorem mok_Md_tell : MOK m_Md_tell := ⟨by decide +kernel, by decide, cd_Md_tell, pg_Md_tell⟩
theorem hdd_Law_order_ : yX0_order.cls ≠ "java/lang/invoke/MethodHandle" ∧ yX0_order.cls ≠ "java/lang/invoke/VarHandle" ∧ (parseMethodDescriptor yX0_order.desc).map (fun d => d.parameters.length) = some 4 := by decide +kernel
theorem mok_Law_order : MOK m_Law_order := ⟨by decide +kernel, by decide, cd_Law_order, pg_Law_order⟩
theorem hdd_Md_order_ : yX14_order.cls ≠ "java/lang/invoke/MethodHandle" ∧ yX14_order.cls ≠ "java/lang/invoke/VarHandle" ∧ (parseMethodDescriptor yX14_order.desc).map (fun d => d.parameters.length) = some 2 := by decide +kernel
theorem mok_Md_order : MOK m_Md_order := ⟨by decide +kernel, by decide, cd_Md_order, pg_Md_order⟩
theorem hdd_Law_read_ : yX0_read.cls ≠ "java/lang/invoke/MethodHandle" ∧ yX0_read.cls ≠ "java/lang/invoke/VarHandle" ∧ (parseMethodDescriptor yX0_read.desc).map (fun d => d.parameters.length) = some 4 := by decide +kernel
theorem mok_Law_read : MOK m_Law_read := ⟨by decide +kernel, by decide, cd_Law_read, pg_Law_read⟩
theorem hdd_Md_read_ : yX14_read.cls ≠ "java/lang/invoke/MethodHandle" ∧ yX14_read.cls ≠ "java/lang/invoke/VarHandle" ∧ (parseMethodDescriptor yX14_read.desc).map (fun d => d.parameters.length) = some 2 := by decide +kernel
theorem mok_Md_read : MOK m_Md_read := ⟨by decide +kernel, by decide, cd_Md_read, pg_Md_read⟩
theorem hdd_Law_show_ : yX0_show.cls ≠ "java/lang/invoke/MethodHandle" ∧ yX0_show.cls ≠ "java/lang/invoke/VarHandle" ∧ (parseMethodDescriptor yX0_show.desc).map (fun d => d.parameters.length) = some 4 := by decide +kernel
theorem mok_Law_show : MOK m_Law_show := ⟨by decide +kernel, by decide, cd_Law_show, pg_Law_show⟩
theorem hdd_Md_show_ : yX14_show.cls ≠ "java/lang/invoke/MethodHandle" ∧ yX14_show.cls ≠ "java/lang/invoke/VarHandle" ∧ (parseMethodDescriptor yX14_show.desc).map (fun d => d.parameters.length) = some 2 := by decide +kernel
theorem mok_Md_show : MOK m_Md_show := ⟨by decide +kernel, by decide, cd_Md_show, pg_Md_show⟩
theorem hdd_Law_stream_ : yX0_stream.cls ≠ "java/lang/invoke/MethodHandle" ∧ yX0_stream.cls ≠ "java/lang/invoke/VarHandle" ∧ (parseMethodDescriptor yX0_stream.desc).map (fun d => d.parameters.length) = some 2 := by decide +kernel
theorem mok_Law_stream : MOK m_Law_stream := ⟨by decide +kernel, by decide, cd_Law_stream, pg_Law_stream⟩
theorem hdd_Md_stream_ : yX14_stream.cls ≠ "java/lang/invoke/MethodHandle" ∧ yX14_stream.cls ≠ "java/lang/invoke/VarHandle" ∧ (parseMethodDescriptor yX14_stream.desc).map (fun d => d.parameters.length) = some 0 := by decide +kernel
theorem mok_Md_stream : MOK m_Md_stream := ⟨by decide +kernel, by decide, cd_Md_stream, pg_Md_stream⟩
theorem hdd_Law_thread_ : yX0_thread.cls ≠ "java/lang/invoke/MethodHandle" ∧ yX0_thread.cls ≠ "java/lang/invoke/VarHandle" ∧ (parseMethodDescriptor yX0_thread.desc).map (fun d => d.parameters.length) = some 2 := by decide +kernel
theorem mok_Law_thread : MOK m_Law_thread := ⟨by decide +kernel, by decide, cd_Law_thread, pg_Law_thread⟩
theorem hdd_Md_thread_2_ : yX14_thread_2.cls ≠ "java/lang/invoke/MethodHandle" ∧ yX14_thread_2.cls ≠ "java/lang/invoke/VarHandle" ∧ (parseMethodDescriptor yX14_thread_2.desc).map (fun d => d.parameters.length) = some 0 := by decide +kernel
theorem mok_Md_thread_2 : MOK m_Md_thread_2 := ⟨by decide +kernel, by decide, cd_Md_thread_2, pg_Md_thread_2⟩
theorem hdd_Law_step_ : yX0_step.cls ≠ "java/lang/invoke/MethodHandle" ∧ yX0_step.cls ≠ "java/lang/invoke/VarHandle" ∧ (parseMethodDescriptor yX0_step.desc).map (fun d => d.parameters.length) = some 3 := by decide +kernel
theorem mok_Law_step : MOK m_Law_step := ⟨by decide +kernel, by decide, cd_Law_step, pg_Law_step⟩
theorem hdd_Md_step_ : yX14_step.cls ≠ "java/lang/invoke/MethodHandle" ∧ yX14_step.cls ≠ "java/lang/invoke/VarHandle" ∧ (parseMethodDescriptor yX14_step.desc).map (fun d => d.parameters.length) = some 1 := by decide +kernel
theorem mok_Md_step : MOK m_Md_step := ⟨by decide +kernel, by decide, cd_Md_step, pg_Md_step⟩
theorem hdd_Law_run_ : yX0_run.cls ≠ "java/lang/invoke/MethodHandle" ∧ yX0_run.cls ≠ "java/lang/invoke/VarHandle" ∧ (parseMethodDescriptor yX0_run.desc).map (fun d => d.parameters.length) = some 4 := by decide +kernel
theorem mok_Law_run : MOK m_Law_run := ⟨by decide +kernel, by decide, cd_Law_run, pg_Law_run⟩
theorem hdd_Md_run_ : yX14_run.cls ≠ "java/lang/invoke/MethodHandle" ∧ yX14_run.cls ≠ "java/lang/invoke/VarHandle" ∧ (parseMethodDescriptor yX14_run.desc).map (fun d => d.parameters.length) = some 2 := by decide +kernel
theorem mok_Md_run : MOK m_Md_run := ⟨by decide +kernel, by decide, cd_Md_run, pg_Md_run⟩
theorem hdd_Law_tick_ : yX0_tick.cls ≠ "java/lang/invoke/MethodHandle" ∧ yX0_tick.cls ≠ "java/lang/invoke/VarHandle" ∧ (parseMethodDescriptor yX0_tick.desc).map (fun d => d.parameters.length) = some 3 := by decide +kernel
theorem mok_Law_tick : MOK m_Law_tick := ⟨by decide +kernel, by decide, cd_Law_tick, pg_Law_tick⟩
theorem hdd_Md_tick_ : yX14_tick.cls ≠ "java/lang/invoke/MethodHandle" ∧ yX14_tick.cls ≠ "java/lang/invoke/VarHandle" ∧ (parseMethodDescriptor yX14_tick.desc).map (fun d => d.parameters.length) = some 1 := by decide +kernel
theorem mok_Md_tick : MOK m_Md_tick := ⟨by decide +kernel, by decide, cd_Md_tick, pg_Md_tick⟩
theorem hdd_Law_interrupt_ : yX0_interrupt.cls ≠ "java/lang/invoke/MethodHandle" ∧ yX0_interrupt.cls ≠ "java/lang/invoke/VarHandle" ∧ (parseMethodDescriptor yX0_interrupt.desc).map (fun d => d.parameters.length) = some 3 := by decide +kernel
theorem mok_Law_interrupt : MOK m_Law_interrupt := ⟨by decide +kernel, by decide, cd_Law_interrupt, pg_Law_interrupt⟩
theorem hdd_Md_interrupt_ : yX14_interrupt.cls ≠ "java/lang/invoke/MethodHandle" ∧ yX14_interrupt.cls ≠ "java/lang/invoke/VarHandle" ∧ (parseMethodDescriptor yX14_interrupt.desc).map (fun d => d.parameters.length) = some 1 := by decide +kernel
theorem mok_Md_interrupt : MOK m_Md_interrupt := ⟨by decide +kernel, by decide, cd_Md_interrupt, pg_Md_interrupt⟩
theorem hdd_Law_look_ : yX0_look.cls ≠ "java/lang/invoke/MethodHandle" ∧ yX0_look.cls ≠ "java/lang/invoke/VarHandle" ∧ (parseMethodDescriptor yX0_look.desc).map (fun d => d.parameters.length) = some 4 := by decide +kernel
theorem mok_Law_look : MOK m_Law_look := ⟨by decide +kernel, by decide, cd_Law_look, pg_Law_look⟩
theorem hdd_Md_look_ : yX14_look.cls ≠ "java/lang/invoke/MethodHandle" ∧ yX14_look.cls ≠ "java/lang/invoke/VarHandle" ∧ (parseMethodDescriptor yX14_look.desc).map (fun d => d.parameters.length) = some 2 := by decide +kernel
theorem mok_Md_look : MOK m_Md_look := ⟨by decide +kernel, by decide, cd_Md_look, pg_Md_look⟩
theorem hdd_Desk_dead_ : yX1_dead.cls ≠ "java/lang/invoke/MethodHandle" ∧ yX1_dead.cls ≠ "java/lang/invoke/VarHandle" ∧ (parseMethodDescriptor yX1_dead.desc).map (fun d => d.parameters.length) = some 0 := by decide +kernel
theorem mok_Desk_dead : MOK m_Desk_dead := ⟨by decide +kernel, by decide, cd_Desk_dead, pg_Desk_dead⟩
theorem hdd_Md_dead_ : yX14_dead.cls ≠ "java/lang/invoke/MethodHandle" ∧ yX14_dead.cls ≠ "java/lang/invoke/VarHandle" ∧ (parseMethodDescriptor yX14_dead.desc).map (fun d => d.parameters.length) = some 0 := by decide +kernel
theorem mok_Md_dead : MOK m_Md_dead := ⟨by decide +kernel, by decide, cd_Md_dead, pg_Md_dead⟩
theorem hdd_Law_sync_ : yX0_sync.cls ≠ "java/lang/invoke/MethodHandle" ∧ yX0_sync.cls ≠ "java/lang/invoke/VarHandle" ∧ (parseMethodDescriptor yX0_sync.desc).map (fun d => d.parameters.length) = some 4 := by decide +kernel
theorem mok_Law_sync : MOK m_Law_sync := ⟨by decide +kernel, by decide, cd_Law_sync, pg_Law_sync⟩
theorem hdd_Md_sync_ : yX14_sync.cls ≠ "java/lang/invoke/MethodHandle" ∧ yX14_sync.cls ≠ "java/lang/invoke/VarHandle" ∧ (parseMethodDescriptor yX14_sync.desc).map (fun d => d.parameters.length) = some 2 := by decide +kernel
theorem mok_Md_sync : MOK m_Md_sync := ⟨by decide +kernel, by decide, cd_Md_sync, pg_Md_sync⟩
theorem hdd_Law_date_ : yX0_date.cls ≠ "java/lang/invoke/MethodHandle" ∧ yX0_date.cls ≠ "java/lang/invoke/VarHandle" ∧ (parseMethodDescriptor yX0_date.desc).map (fun d => d.parameters.length) = some 5 := by decide +kernel
theorem mok_Law_date : MOK m_Law_date := ⟨by decide +kernel, by decide, cd_Law_date, pg_Law_date⟩
theorem hdd_Md_date_ : yX14_date.cls ≠ "java/lang/invoke/MethodHandle" ∧ yX14_date.cls ≠ "java/lang/invoke/VarHandle" ∧ (parseMethodDescriptor yX14_date.desc).map (fun d => d.parameters.length) = some 3 := by decide +kernel
theorem mok_Md_date : MOK m_Md_date := ⟨by decide +kernel, by decide, cd_Md_date, pg_Md_date⟩
theorem hdd_Law_part_ : yX0_part.cls ≠ "java/lang/invoke/MethodHandle" ∧ yX0_part.cls ≠ "java/lang/invoke/VarHandle" ∧ (parseMethodDescriptor yX0_part.desc).map (fun d => d.parameters.length) = some 4 := by decide +kernel
theorem mok_Law_part : MOK m_Law_part := ⟨by decide +kernel, by decide, cd_Law_part, pg_Law_part⟩
theorem hdd_Md_part_2_ : yX14_part_2.cls ≠ "java/lang/invoke/MethodHandle" ∧ yX14_part_2.cls ≠ "java/lang/invoke/VarHandle" ∧ (parseMethodDescriptor yX14_part_2.desc).map (fun d => d.parameters.length) = some 2 := by decide +kernel
theorem mok_Md_part_2 : MOK m_Md_part_2 := ⟨by decide +kernel, by decide, cd_Md_part_2, pg_Md_part_2⟩
theorem hdd_Law_plus_ : yX0_plus.cls ≠ "java/lang/invoke/MethodHandle" ∧ yX0_plus.cls ≠ "java/lang/invoke/VarHandle" ∧ (parseMethodDescriptor yX0_plus.desc).map (fun d => d.parameters.length) = some 5 := by decide +kernel
theorem mok_Law_plus : MOK m_Law_plus := ⟨by decide +kernel, by decide, cd_Law_plus, pg_Law_plus⟩
theorem hdd_Md_plus_ : yX14_plus.cls ≠ "java/lang/invoke/MethodHandle" ∧ yX14_plus.cls ≠ "java/lang/invoke/VarHandle" ∧ (parseMethodDescriptor yX14_plus.desc).map (fun d => d.parameters.length) = some 3 := by decide +kernel
theorem mok_Md_plus : MOK m_Md_plus := ⟨by decide +kernel, by decide, cd_Md_plus, pg_Md_plus⟩
theorem hdd_Law_between_ : yX0_between.cls ≠ "java/lang/invoke/MethodHandle" ∧ yX0_between.cls ≠ "java/lang/invoke/VarHandle" ∧ (parseMethodDescriptor yX0_between.desc).map (fun d => d.parameters.length) = some 5 := by decide +kernel
theorem mok_Law_between : MOK m_Law_between := ⟨by decide +kernel, by decide, cd_Law_between, pg_Law_between⟩
theorem hdd_Md_between_ : yX14_between.cls ≠ "java/lang/invoke/MethodHandle" ∧ yX14_between.cls ≠ "java/lang/invoke/VarHandle" ∧ (parseMethodDescriptor yX14_between.desc).map (fun d => d.parameters.length) = some 3 := by decide +kernel
theorem mok_Md_between : MOK m_Md_between := ⟨by decide +kernel, by decide, cd_Md_between, pg_Md_between⟩
theorem hdd_Law_word_ : yX0_word.cls ≠ "java/lang/invoke/MethodHandle" ∧ yX0_word.cls ≠ "java/lang/invoke/VarHandle" ∧ (parseMethodDescriptor yX0_word.desc).map (fun d => d.parameters.length) = some 3 := by decide +kernel
theorem mok_Law_word : MOK m_Law_word := ⟨by decide +kernel, by decide, cd_Law_word, pg_Law_word⟩
theorem hdd_Md_word_2_ : yX14_word_2.cls ≠ "java/lang/invoke/MethodHandle" ∧ yX14_word_2.cls ≠ "java/lang/invoke/VarHandle" ∧ (parseMethodDescriptor yX14_word_2.desc).map (fun d => d.parameters.length) = some 1 := by decide +kernel
theorem mok_Md_word_2 : MOK m_Md_word_2 := ⟨by decide +kernel, by decide, cd_Md_word_2, pg_Md_word_2⟩
theorem hdd_Law_count_ : yX0_count.cls ≠ "java/lang/invoke/MethodHandle" ∧ yX0_count.cls ≠ "java/lang/invoke/VarHandle" ∧ (parseMethodDescriptor yX0_count.desc).map (fun d => d.parameters.length) = some 3 := by decide +kernel
theorem mok_Law_count : MOK m_Law_count := ⟨by decide +kernel, by decide, cd_Law_count, pg_Law_count⟩
theorem hdd_Md_count_ : yX14_count.cls ≠ "java/lang/invoke/MethodHandle" ∧ yX14_count.cls ≠ "java/lang/invoke/VarHandle" ∧ (parseMethodDescriptor yX14_count.desc).map (fun d => d.parameters.length) = some 1 := by decide +kernel
theorem mok_Md_count : MOK m_Md_count := ⟨by decide +kernel, by decide, cd_Md_count, pg_Md_count⟩
