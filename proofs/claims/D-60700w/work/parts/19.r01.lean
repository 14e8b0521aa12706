/-! ROWS: written by gen/ss.py: links, fields, classes, by their places -/
set_option maxRecDepth 100000
theorem ncr_40 : ("java/lang/ArithmeticException", "java/lang/IndexOutOfBoundsException") ∈ ncT := List.mem_of_getElem? (i := 40) rfl
theorem xr_java_lang_IndexOutOfBoundsException_67 : (inC [60, 68] 67 = true → Cond.castable (exN 67) "java/lang/IndexOutOfBoundsException" ∈ nwT) ∧ (¬ inC [60, 68] 67 = true → (exN 67, "java/lang/IndexOutOfBoundsException") ∈ ncT) := ⟨fun h => absurd h (by decide), fun _ => ncr_40⟩
theorem ncr_37 : ("java/lang/UnsupportedOperationException", "java/lang/IndexOutOfBoundsException") ∈ ncT := List.mem_of_getElem? (i := 37) rfl
theorem xr_java_lang_IndexOutOfBoundsException_66 : (inC [60, 68] 66 = true → Cond.castable (exN 66) "java/lang/IndexOutOfBoundsException" ∈ nwT) ∧ (¬ inC [60, 68] 66 = true → (exN 66, "java/lang/IndexOutOfBoundsException") ∈ ncT) := ⟨fun h => absurd h (by decide), fun _ => ncr_37⟩
theorem ncr_36 : ("java/lang/ClassCastException", "java/lang/IndexOutOfBoundsException") ∈ ncT := List.mem_of_getElem? (i := 36) rfl
theorem xr_java_lang_IndexOutOfBoundsException_65 : (inC [60, 68] 65 = true → Cond.castable (exN 65) "java/lang/IndexOutOfBoundsException" ∈ nwT) ∧ (¬ inC [60, 68] 65 = true → (exN 65, "java/lang/IndexOutOfBoundsException") ∈ ncT) := ⟨fun h => absurd h (by decide), fun _ => ncr_36⟩
theorem ncr_35 : ("java/util/NoSuchElementException", "java/lang/IndexOutOfBoundsException") ∈ ncT := List.mem_of_getElem? (i := 35) rfl
theorem xr_java_lang_IndexOutOfBoundsException_64 : (inC [60, 68] 64 = true → Cond.castable (exN 64) "java/lang/IndexOutOfBoundsException" ∈ nwT) ∧ (¬ inC [60, 68] 64 = true → (exN 64, "java/lang/IndexOutOfBoundsException") ∈ ncT) := ⟨fun h => absurd h (by decide), fun _ => ncr_35⟩
theorem ncr_16 : ("java/lang/IllegalStateException", "java/lang/IndexOutOfBoundsException") ∈ ncT := List.mem_of_getElem? (i := 16) rfl
theorem xr_java_lang_IndexOutOfBoundsException_63 : (inC [60, 68] 63 = true → Cond.castable (exN 63) "java/lang/IndexOutOfBoundsException" ∈ nwT) ∧ (¬ inC [60, 68] 63 = true → (exN 63, "java/lang/IndexOutOfBoundsException") ∈ ncT) := ⟨fun h => absurd h (by decide), fun _ => ncr_16⟩
theorem ncr_15 : ("java/lang/NegativeArraySizeException", "java/lang/IndexOutOfBoundsException") ∈ ncT := List.mem_of_getElem? (i := 15) rfl
theorem xr_java_lang_IndexOutOfBoundsException_62 : (inC [60, 68] 62 = true → Cond.castable (exN 62) "java/lang/IndexOutOfBoundsException" ∈ nwT) ∧ (¬ inC [60, 68] 62 = true → (exN 62, "java/lang/IndexOutOfBoundsException") ∈ ncT) := ⟨fun h => absurd h (by decide), fun _ => ncr_15⟩
theorem ncr_14 : ("java/lang/IllegalArgumentException", "java/lang/IndexOutOfBoundsException") ∈ ncT := List.mem_of_getElem? (i := 14) rfl
theorem xr_java_lang_IndexOutOfBoundsException_61 : (inC [60, 68] 61 = true → Cond.castable (exN 61) "java/lang/IndexOutOfBoundsException" ∈ nwT) ∧ (¬ inC [60, 68] 61 = true → (exN 61, "java/lang/IndexOutOfBoundsException") ∈ ncT) := ⟨fun h => absurd h (by decide), fun _ => ncr_14⟩
theorem xr_java_lang_IndexOutOfBoundsException_60 : (inC [60, 68] 60 = true → Cond.castable (exN 60) "java/lang/IndexOutOfBoundsException" ∈ nwT) ∧ (¬ inC [60, 68] 60 = true → (exN 60, "java/lang/IndexOutOfBoundsException") ∈ ncT) := ⟨fun _ => nw1250, fun h => absurd (by decide) h⟩
theorem ncr_41 : ("LibraryDeskModel$Refused", "java/lang/IndexOutOfBoundsException") ∈ ncT := List.mem_of_getElem? (i := 41) rfl
theorem xr_java_lang_IndexOutOfBoundsException_50 : (inC [60, 68] 50 = true → Cond.castable (exN 50) "java/lang/IndexOutOfBoundsException" ∈ nwT) ∧ (¬ inC [60, 68] 50 = true → (exN 50, "java/lang/IndexOutOfBoundsException") ∈ ncT) := ⟨fun h => absurd h (by decide), fun _ => ncr_41⟩
theorem ncr_39 : ("LibraryDeskModel$Broken", "java/lang/IndexOutOfBoundsException") ∈ ncT := List.mem_of_getElem? (i := 39) rfl
theorem xr_java_lang_IndexOutOfBoundsException_49 : (inC [60, 68] 49 = true → Cond.castable (exN 49) "java/lang/IndexOutOfBoundsException" ∈ nwT) ∧ (¬ inC [60, 68] 49 = true → (exN 49, "java/lang/IndexOutOfBoundsException") ∈ ncT) := ⟨fun h => absurd h (by decide), fun _ => ncr_39⟩
theorem ncr_38 : ("LibraryDesk$Broken", "java/lang/IndexOutOfBoundsException") ∈ ncT := List.mem_of_getElem? (i := 38) rfl
theorem xr_java_lang_IndexOutOfBoundsException_48 : (inC [60, 68] 48 = true → Cond.castable (exN 48) "java/lang/IndexOutOfBoundsException" ∈ nwT) ∧ (¬ inC [60, 68] 48 = true → (exN 48, "java/lang/IndexOutOfBoundsException") ∈ ncT) := ⟨fun h => absurd h (by decide), fun _ => ncr_38⟩
theorem clr_11 : clT[clI 11]? = some (RX1, TX1, 21) := rfl
theorem hdd_Desk_feed_ : yX1_feed.cls ≠ "java/lang/invoke/MethodHandle" ∧ yX1_feed.cls ≠ "java/lang/invoke/VarHandle" ∧ (parseMethodDescriptor yX1_feed.desc).map (fun d => d.parameters.length) = some 5 := by decide +kernel
theorem mok_Desk_feed : MOK m_Desk_feed := ⟨by decide +kernel, by decide, cd_Desk_feed, pg_Desk_feed⟩
theorem ncr_83 : ("java/lang/ArithmeticException", "java/lang/IllegalArgumentException") ∈ ncT := List.mem_of_getElem? (i := 83) rfl
theorem xr_java_lang_IllegalArgumentException_67 : (inC [61] 67 = true → Cond.castable (exN 67) "java/lang/IllegalArgumentException" ∈ nwT) ∧ (¬ inC [61] 67 = true → (exN 67, "java/lang/IllegalArgumentException") ∈ ncT) := ⟨fun h => absurd h (by decide), fun _ => ncr_83⟩
theorem ncr_80 : ("java/lang/UnsupportedOperationException", "java/lang/IllegalArgumentException") ∈ ncT := List.mem_of_getElem? (i := 80) rfl
theorem xr_java_lang_IllegalArgumentException_66 : (inC [61] 66 = true → Cond.castable (exN 66) "java/lang/IllegalArgumentException" ∈ nwT) ∧ (¬ inC [61] 66 = true → (exN 66, "java/lang/IllegalArgumentException") ∈ ncT) := ⟨fun h => absurd h (by decide), fun _ => ncr_80⟩
theorem ncr_79 : ("java/lang/ClassCastException", "java/lang/IllegalArgumentException") ∈ ncT := List.mem_of_getElem? (i := 79) rfl
theorem xr_java_lang_IllegalArgumentException_65 : (inC [61] 65 = true → Cond.castable (exN 65) "java/lang/IllegalArgumentException" ∈ nwT) ∧ (¬ inC [61] 65 = true → (exN 65, "java/lang/IllegalArgumentException") ∈ ncT) := ⟨fun h => absurd h (by decide), fun _ => ncr_79⟩
theorem ncr_78 : ("java/util/NoSuchElementException", "java/lang/IllegalArgumentException") ∈ ncT := List.mem_of_getElem? (i := 78) rfl
theorem xr_java_lang_IllegalArgumentException_64 : (inC [61] 64 = true → Cond.castable (exN 64) "java/lang/IllegalArgumentException" ∈ nwT) ∧ (¬ inC [61] 64 = true → (exN 64, "java/lang/IllegalArgumentException") ∈ ncT) := ⟨fun h => absurd h (by decide), fun _ => ncr_78⟩
theorem ncr_59 : ("java/lang/IllegalStateException", "java/lang/IllegalArgumentException") ∈ ncT := List.mem_of_getElem? (i := 59) rfl
theorem xr_java_lang_IllegalArgumentException_63 : (inC [61] 63 = true → Cond.castable (exN 63) "java/lang/IllegalArgumentException" ∈ nwT) ∧ (¬ inC [61] 63 = true → (exN 63, "java/lang/IllegalArgumentException") ∈ ncT) := ⟨fun h => absurd h (by decide), fun _ => ncr_59⟩
theorem ncr_58 : ("java/lang/NegativeArraySizeException", "java/lang/IllegalArgumentException") ∈ ncT := List.mem_of_getElem? (i := 58) rfl
theorem xr_java_lang_IllegalArgumentException_62 : (inC [61] 62 = true → Cond.castable (exN 62) "java/lang/IllegalArgumentException" ∈ nwT) ∧ (¬ inC [61] 62 = true → (exN 62, "java/lang/IllegalArgumentException") ∈ ncT) := ⟨fun h => absurd h (by decide), fun _ => ncr_58⟩
theorem xr_java_lang_IllegalArgumentException_61 : (inC [61] 61 = true → Cond.castable (exN 61) "java/lang/IllegalArgumentException" ∈ nwT) ∧ (¬ inC [61] 61 = true → (exN 61, "java/lang/IllegalArgumentException") ∈ ncT) := ⟨fun _ => nw1286, fun h => absurd (by decide) h⟩
theorem ncr_57 : ("java/lang/IndexOutOfBoundsException", "java/lang/IllegalArgumentException") ∈ ncT := List.mem_of_getElem? (i := 57) rfl
theorem xr_java_lang_IllegalArgumentException_60 : (inC [61] 60 = true → Cond.castable (exN 60) "java/lang/IllegalArgumentException" ∈ nwT) ∧ (¬ inC [61] 60 = true → (exN 60, "java/lang/IllegalArgumentException") ∈ ncT) := ⟨fun h => absurd h (by decide), fun _ => ncr_57⟩
theorem ncr_84 : ("LibraryDeskModel$Refused", "java/lang/IllegalArgumentException") ∈ ncT := List.mem_of_getElem? (i := 84) rfl
theorem xr_java_lang_IllegalArgumentException_50 : (inC [61] 50 = true → Cond.castable (exN 50) "java/lang/IllegalArgumentException" ∈ nwT) ∧ (¬ inC [61] 50 = true → (exN 50, "java/lang/IllegalArgumentException") ∈ ncT) := ⟨fun h => absurd h (by decide), fun _ => ncr_84⟩
theorem ncr_82 : ("LibraryDeskModel$Broken", "java/lang/IllegalArgumentException") ∈ ncT := List.mem_of_getElem? (i := 82) rfl
theorem xr_java_lang_IllegalArgumentException_49 : (inC [61] 49 = true → Cond.castable (exN 49) "java/lang/IllegalArgumentException" ∈ nwT) ∧ (¬ inC [61] 49 = true → (exN 49, "java/lang/IllegalArgumentException") ∈ ncT) := ⟨fun h => absurd h (by decide), fun _ => ncr_82⟩
theorem ncr_81 : ("LibraryDesk$Broken", "java/lang/IllegalArgumentException") ∈ ncT := List.mem_of_getElem? (i := 81) rfl
theorem xr_java_lang_IllegalArgumentException_48 : (inC [61] 48 = true → Cond.castable (exN 48) "java/lang/IllegalArgumentException" ∈ nwT) ∧ (¬ inC [61] 48 = true → (exN 48, "java/lang/IllegalArgumentException") ∈ ncT) := ⟨fun h => absurd h (by decide), fun _ => ncr_81⟩
theorem hdd_Desk_end_ : yX1_end.cls ≠ "java/lang/invoke/MethodHandle" ∧ yX1_end.cls ≠ "java/lang/invoke/VarHandle" ∧ (parseMethodDescriptor yX1_end.desc).map (fun d => d.parameters.length) = some 1 := by decide +kernel
theorem mok_Desk_end : MOK m_Desk_end := ⟨by decide +kernel, by decide, cd_Desk_end, pg_Desk_end⟩
theorem ncr_169 : ("java/lang/ArithmeticException", "java/lang/NegativeArraySizeException") ∈ ncT := List.mem_of_getElem? (i := 169) rfl
theorem xr_java_lang_NegativeArraySizeException_67 : (inC [62] 67 = true → Cond.castable (exN 67) "java/lang/NegativeArraySizeException" ∈ nwT) ∧ (¬ inC [62] 67 = true → (exN 67, "java/lang/NegativeArraySizeException") ∈ ncT) := ⟨fun h => absurd h (by decide), fun _ => ncr_169⟩
theorem ncr_166 : ("java/lang/UnsupportedOperationException", "java/lang/NegativeArraySizeException") ∈ ncT := List.mem_of_getElem? (i := 166) rfl
theorem xr_java_lang_NegativeArraySizeException_66 : (inC [62] 66 = true → Cond.castable (exN 66) "java/lang/NegativeArraySizeException" ∈ nwT) ∧ (¬ inC [62] 66 = true → (exN 66, "java/lang/NegativeArraySizeException") ∈ ncT) := ⟨fun h => absurd h (by decide), fun _ => ncr_166⟩
theorem ncr_165 : ("java/lang/ClassCastException", "java/lang/NegativeArraySizeException") ∈ ncT := List.mem_of_getElem? (i := 165) rfl
theorem xr_java_lang_NegativeArraySizeException_65 : (inC [62] 65 = true → Cond.castable (exN 65) "java/lang/NegativeArraySizeException" ∈ nwT) ∧ (¬ inC [62] 65 = true → (exN 65, "java/lang/NegativeArraySizeException") ∈ ncT) := ⟨fun h => absurd h (by decide), fun _ => ncr_165⟩
theorem ncr_164 : ("java/util/NoSuchElementException", "java/lang/NegativeArraySizeException") ∈ ncT := List.mem_of_getElem? (i := 164) rfl
theorem xr_java_lang_NegativeArraySizeException_64 : (inC [62] 64 = true → Cond.castable (exN 64) "java/lang/NegativeArraySizeException" ∈ nwT) ∧ (¬ inC [62] 64 = true → (exN 64, "java/lang/NegativeArraySizeException") ∈ ncT) := ⟨fun h => absurd h (by decide), fun _ => ncr_164⟩
theorem ncr_145 : ("java/lang/IllegalStateException", "java/lang/NegativeArraySizeException") ∈ ncT := List.mem_of_getElem? (i := 145) rfl
theorem xr_java_lang_NegativeArraySizeException_63 : (inC [62] 63 = true → Cond.castable (exN 63) "java/lang/NegativeArraySizeException" ∈ nwT) ∧ (¬ inC [62] 63 = true → (exN 63, "java/lang/NegativeArraySizeException") ∈ ncT) := ⟨fun h => absurd h (by decide), fun _ => ncr_145⟩
theorem xr_java_lang_NegativeArraySizeException_62 : (inC [62] 62 = true → Cond.castable (exN 62) "java/lang/NegativeArraySizeException" ∈ nwT) ∧ (¬ inC [62] 62 = true → (exN 62, "java/lang/NegativeArraySizeException") ∈ ncT) := ⟨fun _ => nw1315, fun h => absurd (by decide) h⟩
theorem ncr_144 : ("java/lang/IllegalArgumentException", "java/lang/NegativeArraySizeException") ∈ ncT := List.mem_of_getElem? (i := 144) rfl
theorem xr_java_lang_NegativeArraySizeException_61 : (inC [62] 61 = true → Cond.castable (exN 61) "java/lang/NegativeArraySizeException" ∈ nwT) ∧ (¬ inC [62] 61 = true → (exN 61, "java/lang/NegativeArraySizeException") ∈ ncT) := ⟨fun h => absurd h (by decide), fun _ => ncr_144⟩
theorem ncr_143 : ("java/lang/IndexOutOfBoundsException", "java/lang/NegativeArraySizeException") ∈ ncT := List.mem_of_getElem? (i := 143) rfl
theorem xr_java_lang_NegativeArraySizeException_60 : (inC [62] 60 = true → Cond.castable (exN 60) "java/lang/NegativeArraySizeException" ∈ nwT) ∧ (¬ inC [62] 60 = true → (exN 60, "java/lang/NegativeArraySizeException") ∈ ncT) := ⟨fun h => absurd h (by decide), fun _ => ncr_143⟩
theorem ncr_170 : ("LibraryDeskModel$Refused", "java/lang/NegativeArraySizeException") ∈ ncT := List.mem_of_getElem? (i := 170) rfl
theorem xr_java_lang_NegativeArraySizeException_50 : (inC [62] 50 = true → Cond.castable (exN 50) "java/lang/NegativeArraySizeException" ∈ nwT) ∧ (¬ inC [62] 50 = true → (exN 50, "java/lang/NegativeArraySizeException") ∈ ncT) := ⟨fun h => absurd h (by decide), fun _ => ncr_170⟩
theorem ncr_168 : ("LibraryDeskModel$Broken", "java/lang/NegativeArraySizeException") ∈ ncT := List.mem_of_getElem? (i := 168) rfl
theorem xr_java_lang_NegativeArraySizeException_49 : (inC [62] 49 = true → Cond.castable (exN 49) "java/lang/NegativeArraySizeException" ∈ nwT) ∧ (¬ inC [62] 49 = true → (exN 49, "java/lang/NegativeArraySizeException") ∈ ncT) := ⟨fun h => absurd h (by decide), fun _ => ncr_168⟩
theorem ncr_167 : ("LibraryDesk$Broken", "java/lang/NegativeArraySizeException") ∈ ncT := List.mem_of_getElem? (i := 167) rfl
theorem xr_java_lang_NegativeArraySizeException_48 : (inC [62] 48 = true → Cond.castable (exN 48) "java/lang/NegativeArraySizeException" ∈ nwT) ∧ (¬ inC [62] 48 = true → (exN 48, "java/lang/NegativeArraySizeException") ∈ ncT) := ⟨fun h => absurd h (by decide), fun _ => ncr_167⟩
theorem ncr_126 : ("java/lang/ArithmeticException", "java/lang/IllegalStateException") ∈ ncT := List.mem_of_getElem? (i := 126) rfl
theorem xr_java_lang_IllegalStateException_67 : (inC [63] 67 = true → Cond.castable (exN 67) "java/lang/IllegalStateException" ∈ nwT) ∧ (¬ inC [63] 67 = true → (exN 67, "java/lang/IllegalStateException") ∈ ncT) := ⟨fun h => absurd h (by decide), fun _ => ncr_126⟩
theorem ncr_123 : ("java/lang/UnsupportedOperationException", "java/lang/IllegalStateException") ∈ ncT := List.mem_of_getElem? (i := 123) rfl
theorem xr_java_lang_IllegalStateException_66 : (inC [63] 66 = true → Cond.castable (exN 66) "java/lang/IllegalStateException" ∈ nwT) ∧ (¬ inC [63] 66 = true → (exN 66, "java/lang/IllegalStateException") ∈ ncT) := ⟨fun h => absurd h (by decide), fun _ => ncr_123⟩
theorem ncr_122 : ("java/lang/ClassCastException", "java/lang/IllegalStateException") ∈ ncT := List.mem_of_getElem? (i := 122) rfl
theorem xr_java_lang_IllegalStateException_65 : (inC [63] 65 = true → Cond.castable (exN 65) "java/lang/IllegalStateException" ∈ nwT) ∧ (¬ inC [63] 65 = true → (exN 65, "java/lang/IllegalStateException") ∈ ncT) := ⟨fun h => absurd h (by decide), fun _ => ncr_122⟩
theorem ncr_121 : ("java/util/NoSuchElementException", "java/lang/IllegalStateException") ∈ ncT := List.mem_of_getElem? (i := 121) rfl
theorem xr_java_lang_IllegalStateException_64 : (inC [63] 64 = true → Cond.castable (exN 64) "java/lang/IllegalStateException" ∈ nwT) ∧ (¬ inC [63] 64 = true → (exN 64, "java/lang/IllegalStateException") ∈ ncT) := ⟨fun h => absurd h (by decide), fun _ => ncr_121⟩
theorem xr_java_lang_IllegalStateException_63 : (inC [63] 63 = true → Cond.castable (exN 63) "java/lang/IllegalStateException" ∈ nwT) ∧ (¬ inC [63] 63 = true → (exN 63, "java/lang/IllegalStateException") ∈ ncT) := ⟨fun _ => nw1341, fun h => absurd (by decide) h⟩
theorem ncr_102 : ("java/lang/NegativeArraySizeException", "java/lang/IllegalStateException") ∈ ncT := List.mem_of_getElem? (i := 102) rfl
theorem xr_java_lang_IllegalStateException_62 : (inC [63] 62 = true → Cond.castable (exN 62) "java/lang/IllegalStateException" ∈ nwT) ∧ (¬ inC [63] 62 = true → (exN 62, "java/lang/IllegalStateException") ∈ ncT) := ⟨fun h => absurd h (by decide), fun _ => ncr_102⟩
theorem ncr_101 : ("java/lang/IllegalArgumentException", "java/lang/IllegalStateException") ∈ ncT := List.mem_of_getElem? (i := 101) rfl
theorem xr_java_lang_IllegalStateException_61 : (inC [63] 61 = true → Cond.castable (exN 61) "java/lang/IllegalStateException" ∈ nwT) ∧ (¬ inC [63] 61 = true → (exN 61, "java/lang/IllegalStateException") ∈ ncT) := ⟨fun h => absurd h (by decide), fun _ => ncr_101⟩
theorem ncr_100 : ("java/lang/IndexOutOfBoundsException", "java/lang/IllegalStateException") ∈ ncT := List.mem_of_getElem? (i := 100) rfl
theorem xr_java_lang_IllegalStateException_60 : (inC [63] 60 = true → Cond.castable (exN 60) "java/lang/IllegalStateException" ∈ nwT) ∧ (¬ inC [63] 60 = true → (exN 60, "java/lang/IllegalStateException") ∈ ncT) := ⟨fun h => absurd h (by decide), fun _ => ncr_100⟩
theorem ncr_127 : ("LibraryDeskModel$Refused", "java/lang/IllegalStateException") ∈ ncT := List.mem_of_getElem? (i := 127) rfl
theorem xr_java_lang_IllegalStateException_50 : (inC [63] 50 = true → Cond.castable (exN 50) "java/lang/IllegalStateException" ∈ nwT) ∧ (¬ inC [63] 50 = true → (exN 50, "java/lang/IllegalStateException") ∈ ncT) := ⟨fun h => absurd h (by decide), fun _ => ncr_127⟩
theorem ncr_125 : ("LibraryDeskModel$Broken", "java/lang/IllegalStateException") ∈ ncT := List.mem_of_getElem? (i := 125) rfl
theorem xr_java_lang_IllegalStateException_49 : (inC [63] 49 = true → Cond.castable (exN 49) "java/lang/IllegalStateException" ∈ nwT) ∧ (¬ inC [63] 49 = true → (exN 49, "java/lang/IllegalStateException") ∈ ncT) := ⟨fun h => absurd h (by decide), fun _ => ncr_125⟩
theorem ncr_124 : ("LibraryDesk$Broken", "java/lang/IllegalStateException") ∈ ncT := List.mem_of_getElem? (i := 124) rfl
theorem xr_java_lang_IllegalStateException_48 : (inC [63] 48 = true → Cond.castable (exN 48) "java/lang/IllegalStateException" ∈ nwT) ∧ (¬ inC [63] 48 = true → (exN 48, "java/lang/IllegalStateException") ∈ ncT) := ⟨fun h => absurd h (by decide), fun _ => ncr_124⟩
theorem hdd_Desk_make_ : yX1_make.cls ≠ "java/lang/invoke/MethodHandle" ∧ yX1_make.cls ≠ "java/lang/invoke/VarHandle" ∧ (parseMethodDescriptor yX1_make.desc).map (fun d => d.parameters.length) = some 3 := by decide +kernel
theorem mok_Desk_make : MOK m_Desk_make := ⟨by decide +kernel, by decide, cd_Desk_make, pg_Desk_make⟩
theorem ncr_212 : ("java/lang/ArithmeticException", "java/util/NoSuchElementException") ∈ ncT := List.mem_of_getElem? (i := 212) rfl
theorem xr_java_util_NoSuchElementException_67 : (inC [64] 67 = true → Cond.castable (exN 67) "java/util/NoSuchElementException" ∈ nwT) ∧ (¬ inC [64] 67 = true → (exN 67, "java/util/NoSuchElementException") ∈ ncT) := ⟨fun h => absurd h (by decide), fun _ => ncr_212⟩
theorem ncr_209 : ("java/lang/UnsupportedOperationException", "java/util/NoSuchElementException") ∈ ncT := List.mem_of_getElem? (i := 209) rfl
theorem xr_java_util_NoSuchElementException_66 : (inC [64] 66 = true → Cond.castable (exN 66) "java/util/NoSuchElementException" ∈ nwT) ∧ (¬ inC [64] 66 = true → (exN 66, "java/util/NoSuchElementException") ∈ ncT) := ⟨fun h => absurd h (by decide), fun _ => ncr_209⟩
theorem ncr_208 : ("java/lang/ClassCastException", "java/util/NoSuchElementException") ∈ ncT := List.mem_of_getElem? (i := 208) rfl
theorem xr_java_util_NoSuchElementException_65 : (inC [64] 65 = true → Cond.castable (exN 65) "java/util/NoSuchElementException" ∈ nwT) ∧ (¬ inC [64] 65 = true → (exN 65, "java/util/NoSuchElementException") ∈ ncT) := ⟨fun h => absurd h (by decide), fun _ => ncr_208⟩
theorem xr_java_util_NoSuchElementException_64 : (inC [64] 64 = true → Cond.castable (exN 64) "java/util/NoSuchElementException" ∈ nwT) ∧ (¬ inC [64] 64 = true → (exN 64, "java/util/NoSuchElementException") ∈ ncT) := ⟨fun _ => nw1950, fun h => absurd (by decide) h⟩
theorem ncr_189 : ("java/lang/IllegalStateException", "java/util/NoSuchElementException") ∈ ncT := List.mem_of_getElem? (i := 189) rfl
theorem xr_java_util_NoSuchElementException_63 : (inC [64] 63 = true → Cond.castable (exN 63) "java/util/NoSuchElementException" ∈ nwT) ∧ (¬ inC [64] 63 = true → (exN 63, "java/util/NoSuchElementException") ∈ ncT) := ⟨fun h => absurd h (by decide), fun _ => ncr_189⟩
theorem ncr_188 : ("java/lang/NegativeArraySizeException", "java/util/NoSuchElementException") ∈ ncT := List.mem_of_getElem? (i := 188) rfl
theorem xr_java_util_NoSuchElementException_62 : (inC [64] 62 = true → Cond.castable (exN 62) "java/util/NoSuchElementException" ∈ nwT) ∧ (¬ inC [64] 62 = true → (exN 62, "java/util/NoSuchElementException") ∈ ncT) := ⟨fun h => absurd h (by decide), fun _ => ncr_188⟩
theorem ncr_187 : ("java/lang/IllegalArgumentException", "java/util/NoSuchElementException") ∈ ncT := List.mem_of_getElem? (i := 187) rfl
theorem xr_java_util_NoSuchElementException_61 : (inC [64] 61 = true → Cond.castable (exN 61) "java/util/NoSuchElementException" ∈ nwT) ∧ (¬ inC [64] 61 = true → (exN 61, "java/util/NoSuchElementException") ∈ ncT) := ⟨fun h => absurd h (by decide), fun _ => ncr_187⟩
theorem ncr_186 : ("java/lang/IndexOutOfBoundsException", "java/util/NoSuchElementException") ∈ ncT := List.mem_of_getElem? (i := 186) rfl
theorem xr_java_util_NoSuchElementException_60 : (inC [64] 60 = true → Cond.castable (exN 60) "java/util/NoSuchElementException" ∈ nwT) ∧ (¬ inC [64] 60 = true → (exN 60, "java/util/NoSuchElementException") ∈ ncT) := ⟨fun h => absurd h (by decide), fun _ => ncr_186⟩
theorem ncr_213 : ("LibraryDeskModel$Refused", "java/util/NoSuchElementException") ∈ ncT := List.mem_of_getElem? (i := 213) rfl
theorem xr_java_util_NoSuchElementException_50 : (inC [64] 50 = true → Cond.castable (exN 50) "java/util/NoSuchElementException" ∈ nwT) ∧ (¬ inC [64] 50 = true → (exN 50, "java/util/NoSuchElementException") ∈ ncT) := ⟨fun h => absurd h (by decide), fun _ => ncr_213⟩
theorem ncr_211 : ("LibraryDeskModel$Broken", "java/util/NoSuchElementException") ∈ ncT := List.mem_of_getElem? (i := 211) rfl
theorem xr_java_util_NoSuchElementException_49 : (inC [64] 49 = true → Cond.castable (exN 49) "java/util/NoSuchElementException" ∈ nwT) ∧ (¬ inC [64] 49 = true → (exN 49, "java/util/NoSuchElementException") ∈ ncT) := ⟨fun h => absurd h (by decide), fun _ => ncr_211⟩
theorem ncr_210 : ("LibraryDesk$Broken", "java/util/NoSuchElementException") ∈ ncT := List.mem_of_getElem? (i := 210) rfl
theorem xr_java_util_NoSuchElementException_48 : (inC [64] 48 = true → Cond.castable (exN 48) "java/util/NoSuchElementException" ∈ nwT) ∧ (¬ inC [64] 48 = true → (exN 48, "java/util/NoSuchElementException") ∈ ncT) := ⟨fun h => absurd h (by decide), fun _ => ncr_210⟩
theorem hdd_Desk_drop_ : yX1_drop.cls ≠ "java/lang/invoke/MethodHandle" ∧ yX1_drop.cls ≠ "java/lang/invoke/VarHandle" ∧ (parseMethodDescriptor yX1_drop.desc).map (fun d => d.parameters.length) = some 1 := by decide +kernel
theorem mok_Desk_drop : MOK m_Desk_drop := ⟨by decide +kernel, by decide, cd_Desk_drop, pg_Desk_drop⟩
theorem ncr_341 : ("java/lang/ArithmeticException", "java/lang/UnsupportedOperationException") ∈ ncT := List.mem_of_getElem? (i := 341) rfl
theorem xr_java_lang_UnsupportedOperationException_67 : (inC [66] 67 = true → Cond.castable (exN 67) "java/lang/UnsupportedOperationException" ∈ nwT) ∧ (¬ inC [66] 67 = true → (exN 67, "java/lang/UnsupportedOperationException") ∈ ncT) := ⟨fun h => absurd h (by decide), fun _ => ncr_341⟩
theorem xr_java_lang_UnsupportedOperationException_66 : (inC [66] 66 = true → Cond.castable (exN 66) "java/lang/UnsupportedOperationException" ∈ nwT) ∧ (¬ inC [66] 66 = true → (exN 66, "java/lang/UnsupportedOperationException") ∈ ncT) := ⟨fun _ => nw2174, fun h => absurd (by decide) h⟩
theorem ncr_338 : ("java/lang/ClassCastException", "java/lang/UnsupportedOperationException") ∈ ncT := List.mem_of_getElem? (i := 338) rfl
theorem xr_java_lang_UnsupportedOperationException_65 : (inC [66] 65 = true → Cond.castable (exN 65) "java/lang/UnsupportedOperationException" ∈ nwT) ∧ (¬ inC [66] 65 = true → (exN 65, "java/lang/UnsupportedOperationException") ∈ ncT) := ⟨fun h => absurd h (by decide), fun _ => ncr_338⟩
theorem ncr_337 : ("java/util/NoSuchElementException", "java/lang/UnsupportedOperationException") ∈ ncT := List.mem_of_getElem? (i := 337) rfl
theorem xr_java_lang_UnsupportedOperationException_64 : (inC [66] 64 = true → Cond.castable (exN 64) "java/lang/UnsupportedOperationException" ∈ nwT) ∧ (¬ inC [66] 64 = true → (exN 64, "java/lang/UnsupportedOperationException") ∈ ncT) := ⟨fun h => absurd h (by decide), fun _ => ncr_337⟩
theorem ncr_318 : ("java/lang/IllegalStateException", "java/lang/UnsupportedOperationException") ∈ ncT := List.mem_of_getElem? (i := 318) rfl
theorem xr_java_lang_UnsupportedOperationException_63 : (inC [66] 63 = true → Cond.castable (exN 63) "java/lang/UnsupportedOperationException" ∈ nwT) ∧ (¬ inC [66] 63 = true → (exN 63, "java/lang/UnsupportedOperationException") ∈ ncT) := ⟨fun h => absurd h (by decide), fun _ => ncr_318⟩
theorem ncr_317 : ("java/lang/NegativeArraySizeException", "java/lang/UnsupportedOperationException") ∈ ncT := List.mem_of_getElem? (i := 317) rfl
theorem xr_java_lang_UnsupportedOperationException_62 : (inC [66] 62 = true → Cond.castable (exN 62) "java/lang/UnsupportedOperationException" ∈ nwT) ∧ (¬ inC [66] 62 = true → (exN 62, "java/lang/UnsupportedOperationException") ∈ ncT) := ⟨fun h => absurd h (by decide), fun _ => ncr_317⟩
theorem ncr_316 : ("java/lang/IllegalArgumentException", "java/lang/UnsupportedOperationException") ∈ ncT := List.mem_of_getElem? (i := 316) rfl
theorem xr_java_lang_UnsupportedOperationException_61 : (inC [66] 61 = true → Cond.castable (exN 61) "java/lang/UnsupportedOperationException" ∈ nwT) ∧ (¬ inC [66] 61 = true → (exN 61, "java/lang/UnsupportedOperationException") ∈ ncT) := ⟨fun h => absurd h (by decide), fun _ => ncr_316⟩
theorem ncr_315 : ("java/lang/IndexOutOfBoundsException", "java/lang/UnsupportedOperationException") ∈ ncT := List.mem_of_getElem? (i := 315) rfl
theorem xr_java_lang_UnsupportedOperationException_60 : (inC [66] 60 = true → Cond.castable (exN 60) "java/lang/UnsupportedOperationException" ∈ nwT) ∧ (¬ inC [66] 60 = true → (exN 60, "java/lang/UnsupportedOperationException") ∈ ncT) := ⟨fun h => absurd h (by decide), fun _ => ncr_315⟩
theorem ncr_342 : ("LibraryDeskModel$Refused", "java/lang/UnsupportedOperationException") ∈ ncT := List.mem_of_getElem? (i := 342) rfl
theorem xr_java_lang_UnsupportedOperationException_50 : (inC [66] 50 = true → Cond.castable (exN 50) "java/lang/UnsupportedOperationException" ∈ nwT) ∧ (¬ inC [66] 50 = true → (exN 50, "java/lang/UnsupportedOperationException") ∈ ncT) := ⟨fun h => absurd h (by decide), fun _ => ncr_342⟩
theorem ncr_340 : ("LibraryDeskModel$Broken", "java/lang/UnsupportedOperationException") ∈ ncT := List.mem_of_getElem? (i := 340) rfl
theorem xr_java_lang_UnsupportedOperationException_49 : (inC [66] 49 = true → Cond.castable (exN 49) "java/lang/UnsupportedOperationException" ∈ nwT) ∧ (¬ inC [66] 49 = true → (exN 49, "java/lang/UnsupportedOperationException") ∈ ncT) := ⟨fun h => absurd h (by decide), fun _ => ncr_340⟩
theorem ncr_339 : ("LibraryDesk$Broken", "java/lang/UnsupportedOperationException") ∈ ncT := List.mem_of_getElem? (i := 339) rfl
theorem xr_java_lang_UnsupportedOperationException_48 : (inC [66] 48 = true → Cond.castable (exN 48) "java/lang/UnsupportedOperationException" ∈ nwT) ∧ (¬ inC [66] 48 = true → (exN 48, "java/lang/UnsupportedOperationException") ∈ ncT) := ⟨fun h => absurd h (by decide), fun _ => ncr_339⟩
theorem ncr_298 : ("java/lang/ArithmeticException", "java/lang/ClassCastException") ∈ ncT := List.mem_of_getElem? (i := 298) rfl
theorem xr_java_lang_ClassCastException_67 : (inC [65] 67 = true → Cond.castable (exN 67) "java/lang/ClassCastException" ∈ nwT) ∧ (¬ inC [65] 67 = true → (exN 67, "java/lang/ClassCastException") ∈ ncT) := ⟨fun h => absurd h (by decide), fun _ => ncr_298⟩
theorem ncr_295 : ("java/lang/UnsupportedOperationException", "java/lang/ClassCastException") ∈ ncT := List.mem_of_getElem? (i := 295) rfl
theorem xr_java_lang_ClassCastException_66 : (inC [65] 66 = true → Cond.castable (exN 66) "java/lang/ClassCastException" ∈ nwT) ∧ (¬ inC [65] 66 = true → (exN 66, "java/lang/ClassCastException") ∈ ncT) := ⟨fun h => absurd h (by decide), fun _ => ncr_295⟩
theorem xr_java_lang_ClassCastException_65 : (inC [65] 65 = true → Cond.castable (exN 65) "java/lang/ClassCastException" ∈ nwT) ∧ (¬ inC [65] 65 = true → (exN 65, "java/lang/ClassCastException") ∈ ncT) := ⟨fun _ => nw1982, fun h => absurd (by decide) h⟩
theorem ncr_294 : ("java/util/NoSuchElementException", "java/lang/ClassCastException") ∈ ncT := List.mem_of_getElem? (i := 294) rfl
theorem xr_java_lang_ClassCastException_64 : (inC [65] 64 = true → Cond.castable (exN 64) "java/lang/ClassCastException" ∈ nwT) ∧ (¬ inC [65] 64 = true → (exN 64, "java/lang/ClassCastException") ∈ ncT) := ⟨fun h => absurd h (by decide), fun _ => ncr_294⟩
theorem ncr_275 : ("java/lang/IllegalStateException", "java/lang/ClassCastException") ∈ ncT := List.mem_of_getElem? (i := 275) rfl
theorem xr_java_lang_ClassCastException_63 : (inC [65] 63 = true → Cond.castable (exN 63) "java/lang/ClassCastException" ∈ nwT) ∧ (¬ inC [65] 63 = true → (exN 63, "java/lang/ClassCastException") ∈ ncT) := ⟨fun h => absurd h (by decide), fun _ => ncr_275⟩
theorem ncr_274 : ("java/lang/NegativeArraySizeException", "java/lang/ClassCastException") ∈ ncT := List.mem_of_getElem? (i := 274) rfl
theorem xr_java_lang_ClassCastException_62 : (inC [65] 62 = true → Cond.castable (exN 62) "java/lang/ClassCastException" ∈ nwT) ∧ (¬ inC [65] 62 = true → (exN 62, "java/lang/ClassCastException") ∈ ncT) := ⟨fun h => absurd h (by decide), fun _ => ncr_274⟩
theorem ncr_273 : ("java/lang/IllegalArgumentException", "java/lang/ClassCastException") ∈ ncT := List.mem_of_getElem? (i := 273) rfl
theorem xr_java_lang_ClassCastException_61 : (inC [65] 61 = true → Cond.castable (exN 61) "java/lang/ClassCastException" ∈ nwT) ∧ (¬ inC [65] 61 = true → (exN 61, "java/lang/ClassCastException") ∈ ncT) := ⟨fun h => absurd h (by decide), fun _ => ncr_273⟩
theorem ncr_272 : ("java/lang/IndexOutOfBoundsException", "java/lang/ClassCastException") ∈ ncT := List.mem_of_getElem? (i := 272) rfl
theorem xr_java_lang_ClassCastException_60 : (inC [65] 60 = true → Cond.castable (exN 60) "java/lang/ClassCastException" ∈ nwT) ∧ (¬ inC [65] 60 = true → (exN 60, "java/lang/ClassCastException") ∈ ncT) := ⟨fun h => absurd h (by decide), fun _ => ncr_272⟩
theorem ncr_299 : ("LibraryDeskModel$Refused", "java/lang/ClassCastException") ∈ ncT := List.mem_of_getElem? (i := 299) rfl
theorem xr_java_lang_ClassCastException_50 : (inC [65] 50 = true → Cond.castable (exN 50) "java/lang/ClassCastException" ∈ nwT) ∧ (¬ inC [65] 50 = true → (exN 50, "java/lang/ClassCastException") ∈ ncT) := ⟨fun h => absurd h (by decide), fun _ => ncr_299⟩
theorem ncr_297 : ("LibraryDeskModel$Broken", "java/lang/ClassCastException") ∈ ncT := List.mem_of_getElem? (i := 297) rfl
theorem xr_java_lang_ClassCastException_49 : (inC [65] 49 = true → Cond.castable (exN 49) "java/lang/ClassCastException" ∈ nwT) ∧ (¬ inC [65] 49 = true → (exN 49, "java/lang/ClassCastException") ∈ ncT) := ⟨fun h => absurd h (by decide), fun _ => ncr_297⟩
theorem ncr_296 : ("LibraryDesk$Broken", "java/lang/ClassCastException") ∈ ncT := List.mem_of_getElem? (i := 296) rfl
theorem xr_java_lang_ClassCastException_48 : (inC [65] 48 = true → Cond.castable (exN 48) "java/lang/ClassCastException" ∈ nwT) ∧ (¬ inC [65] 48 = true → (exN 48, "java/lang/ClassCastException") ∈ ncT) := ⟨fun h => absurd h (by decide), fun _ => ncr_296⟩
theorem hdd_Desk_list_ : yX1_list.cls ≠ "java/lang/invoke/MethodHandle" ∧ yX1_list.cls ≠ "java/lang/invoke/VarHandle" ∧ (parseMethodDescriptor yX1_list.desc).map (fun d => d.parameters.length) = some 4 := by decide +kernel
theorem mok_Desk_list : MOK m_Desk_list := ⟨by decide +kernel, by decide, cd_Desk_list, pg_Desk_list⟩
theorem hdd_Desk_ring_ : yX1_ring.cls ≠ "java/lang/invoke/MethodHandle" ∧ yX1_ring.cls ≠ "java/lang/invoke/VarHandle" ∧ (parseMethodDescriptor yX1_ring.desc).map (fun d => d.parameters.length) = some 3 := by decide +kernel
theorem mok_Desk_ring : MOK m_Desk_ring := ⟨by decide +kernel, by decide, cd_Desk_ring, pg_Desk_ring⟩
theorem hdd_Desk_map_ : yX1_map.cls ≠ "java/lang/invoke/MethodHandle" ∧ yX1_map.cls ≠ "java/lang/invoke/VarHandle" ∧ (parseMethodDescriptor yX1_map.desc).map (fun d => d.parameters.length) = some 4 := by decide +kernel
theorem mok_Desk_map : MOK m_Desk_map := ⟨by decide +kernel, by decide, cd_Desk_map, pg_Desk_map⟩
theorem hdd_Desk_view_ : yX1_view.cls ≠ "java/lang/invoke/MethodHandle" ∧ yX1_view.cls ≠ "java/lang/invoke/VarHandle" ∧ (parseMethodDescriptor yX1_view.desc).map (fun d => d.parameters.length) = some 4 := by decide +kernel
theorem mok_Desk_view : MOK m_Desk_view := ⟨by decide +kernel, by decide, cd_Desk_view, pg_Desk_view⟩
theorem hdd_Desk_cursor_ : yX1_cursor.cls ≠ "java/lang/invoke/MethodHandle" ∧ yX1_cursor.cls ≠ "java/lang/invoke/VarHandle" ∧ (parseMethodDescriptor yX1_cursor.desc).map (fun d => d.parameters.length) = some 1 := by decide +kernel
theorem mok_Desk_cursor : MOK m_Desk_cursor := ⟨by decide +kernel, by decide, cd_Desk_cursor, pg_Desk_cursor⟩
theorem hdd_Desk_move_ : yX1_move.cls ≠ "java/lang/invoke/MethodHandle" ∧ yX1_move.cls ≠ "java/lang/invoke/VarHandle" ∧ (parseMethodDescriptor yX1_move.desc).map (fun d => d.parameters.length) = some 3 := by decide +kernel
theorem mok_Desk_move : MOK m_Desk_move := ⟨by decide +kernel, by decide, cd_Desk_move, pg_Desk_move⟩
theorem hdd_Desk_heap_ : yX1_heap.cls ≠ "java/lang/invoke/MethodHandle" ∧ yX1_heap.cls ≠ "java/lang/invoke/VarHandle" ∧ (parseMethodDescriptor yX1_heap.desc).map (fun d => d.parameters.length) = some 3 := by decide +kernel
theorem mok_Desk_heap : MOK m_Desk_heap := ⟨by decide +kernel, by decide, cd_Desk_heap, pg_Desk_heap⟩
theorem hdd_Desk_bits_ : yX1_bits.cls ≠ "java/lang/invoke/MethodHandle" ∧ yX1_bits.cls ≠ "java/lang/invoke/VarHandle" ∧ (parseMethodDescriptor yX1_bits.desc).map (fun d => d.parameters.length) = some 4 := by decide +kernel
theorem mok_Desk_bits : MOK m_Desk_bits := ⟨by decide +kernel, by decide, cd_Desk_bits, pg_Desk_bits⟩
theorem hdd_Desk_item_ : yX1_item.cls ≠ "java/lang/invoke/MethodHandle" ∧ yX1_item.cls ≠ "java/lang/invoke/VarHandle" ∧ (parseMethodDescriptor yX1_item.desc).map (fun d => d.parameters.length) = some 3 := by decide +kernel
theorem mok_Desk_item : MOK m_Desk_item := ⟨by decide +kernel, by decide, cd_Desk_item, pg_Desk_item⟩
theorem hdd_Desk_text_ : yX1_text.cls ≠ "java/lang/invoke/MethodHandle" ∧ yX1_text.cls ≠ "java/lang/invoke/VarHandle" ∧ (parseMethodDescriptor yX1_text.desc).map (fun d => d.parameters.length) = some 4 := by decide +kernel
theorem mok_Desk_text : MOK m_Desk_text := ⟨by decide +kernel, by decide, cd_Desk_text, pg_Desk_text⟩
theorem hdd_Desk_pattern_ : yX1_pattern.cls ≠ "java/lang/invoke/MethodHandle" ∧ yX1_pattern.cls ≠ "java/lang/invoke/VarHandle" ∧ (parseMethodDescriptor yX1_pattern.desc).map (fun d => d.parameters.length) = some 0 := by decide +kernel
theorem mok_Desk_pattern : MOK m_Desk_pattern := ⟨by decide +kernel, by decide, cd_Desk_pattern, pg_Desk_pattern⟩
theorem hdd_Desk_match_ : yX1_match.cls ≠ "java/lang/invoke/MethodHandle" ∧ yX1_match.cls ≠ "java/lang/invoke/VarHandle" ∧ (parseMethodDescriptor yX1_match.desc).map (fun d => d.parameters.length) = some 4 := by decide +kernel
theorem mok_Desk_match : MOK m_Desk_match := ⟨by decide +kernel, by decide, cd_Desk_match, pg_Desk_match⟩
theorem hdd_Desk_group_ : yX1_group.cls ≠ "java/lang/invoke/MethodHandle" ∧ yX1_group.cls ≠ "java/lang/invoke/VarHandle" ∧ (parseMethodDescriptor yX1_group.desc).map (fun d => d.parameters.length) = some 2 := by decide +kernel
theorem mok_Desk_group : MOK m_Desk_group := ⟨by decide +kernel, by decide, cd_Desk_group, pg_Desk_group⟩
theorem hdd_Desk_replace_ : yX1_replace.cls ≠ "java/lang/invoke/MethodHandle" ∧ yX1_replace.cls ≠ "java/lang/invoke/VarHandle" ∧ (parseMethodDescriptor yX1_replace.desc).map (fun d => d.parameters.length) = some 2 := by decide +kernel
theorem mok_Desk_replace : MOK m_Desk_replace := ⟨by decide +kernel, by decide, cd_Desk_replace, pg_Desk_replace⟩
theorem hdd_Desk_form_ : yX1_form.cls ≠ "java/lang/invoke/MethodHandle" ∧ yX1_form.cls ≠ "java/lang/invoke/VarHandle" ∧ (parseMethodDescriptor yX1_form.desc).map (fun d => d.parameters.length) = some 1 := by decide +kernel
theorem mok_Desk_form : MOK m_Desk_form := ⟨by decide +kernel, by decide, cd_Desk_form, pg_Desk_form⟩
theorem hdd_Desk_set_ : yX1_set.cls ≠ "java/lang/invoke/MethodHandle" ∧ yX1_set.cls ≠ "java/lang/invoke/VarHandle" ∧ (parseMethodDescriptor yX1_set.desc).map (fun d => d.parameters.length) = some 2 := by decide +kernel
theorem mok_Desk_set : MOK m_Desk_set := ⟨by decide +kernel, by decide, cd_Desk_set, pg_Desk_set⟩
theorem xr_java_lang_ArithmeticException_67 : (inC [67] 67 = true → Cond.castable (exN 67) "java/lang/ArithmeticException" ∈ nwT) ∧ (¬ inC [67] 67 = true → (exN 67, "java/lang/ArithmeticException") ∈ ncT) := ⟨fun _ => nw3604, fun h => absurd (by decide) h⟩
theorem ncr_507 : ("java/lang/UnsupportedOperationException", "java/lang/ArithmeticException") ∈ ncT := List.mem_of_getElem? (i := 507) rfl
theorem xr_java_lang_ArithmeticException_66 : (inC [67] 66 = true → Cond.castable (exN 66) "java/lang/ArithmeticException" ∈ nwT) ∧ (¬ inC [67] 66 = true → (exN 66, "java/lang/ArithmeticException") ∈ ncT) := ⟨fun h => absurd h (by decide), fun _ => ncr_507⟩
theorem ncr_506 : ("java/lang/ClassCastException", "java/lang/ArithmeticException") ∈ ncT := List.mem_of_getElem? (i := 506) rfl
theorem xr_java_lang_ArithmeticException_65 : (inC [67] 65 = true → Cond.castable (exN 65) "java/lang/ArithmeticException" ∈ nwT) ∧ (¬ inC [67] 65 = true → (exN 65, "java/lang/ArithmeticException") ∈ ncT) := ⟨fun h => absurd h (by decide), fun _ => ncr_506⟩
theorem ncr_505 : ("java/util/NoSuchElementException", "java/lang/ArithmeticException") ∈ ncT := List.mem_of_getElem? (i := 505) rfl
theorem xr_java_lang_ArithmeticException_64 : (inC [67] 64 = true → Cond.castable (exN 64) "java/lang/ArithmeticException" ∈ nwT) ∧ (¬ inC [67] 64 = true → (exN 64, "java/lang/ArithmeticException") ∈ ncT) := ⟨fun h => absurd h (by decide), fun _ => ncr_505⟩
theorem ncr_486 : ("java/lang/IllegalStateException", "java/lang/ArithmeticException") ∈ ncT := List.mem_of_getElem? (i := 486) rfl
theorem xr_java_lang_ArithmeticException_63 : (inC [67] 63 = true → Cond.castable (exN 63) "java/lang/ArithmeticException" ∈ nwT) ∧ (¬ inC [67] 63 = true → (exN 63, "java/lang/ArithmeticException") ∈ ncT) := ⟨fun h => absurd h (by decide), fun _ => ncr_486⟩
theorem ncr_485 : ("java/lang/NegativeArraySizeException", "java/lang/ArithmeticException") ∈ ncT := List.mem_of_getElem? (i := 485) rfl
theorem xr_java_lang_ArithmeticException_62 : (inC [67] 62 = true → Cond.castable (exN 62) "java/lang/ArithmeticException" ∈ nwT) ∧ (¬ inC [67] 62 = true → (exN 62, "java/lang/ArithmeticException") ∈ ncT) := ⟨fun h => absurd h (by decide), fun _ => ncr_485⟩
theorem ncr_484 : ("java/lang/IllegalArgumentException", "java/lang/ArithmeticException") ∈ ncT := List.mem_of_getElem? (i := 484) rfl
theorem xr_java_lang_ArithmeticException_61 : (inC [67] 61 = true → Cond.castable (exN 61) "java/lang/ArithmeticException" ∈ nwT) ∧ (¬ inC [67] 61 = true → (exN 61, "java/lang/ArithmeticException") ∈ ncT) := ⟨fun h => absurd h (by decide), fun _ => ncr_484⟩
theorem ncr_483 : ("java/lang/IndexOutOfBoundsException", "java/lang/ArithmeticException") ∈ ncT := List.mem_of_getElem? (i := 483) rfl
theorem xr_java_lang_ArithmeticException_60 : (inC [67] 60 = true → Cond.castable (exN 60) "java/lang/ArithmeticException" ∈ nwT) ∧ (¬ inC [67] 60 = true → (exN 60, "java/lang/ArithmeticException") ∈ ncT) := ⟨fun h => absurd h (by decide), fun _ => ncr_483⟩
theorem ncr_510 : ("LibraryDeskModel$Refused", "java/lang/ArithmeticException") ∈ ncT := List.mem_of_getElem? (i := 510) rfl
theorem xr_java_lang_ArithmeticException_50 : (inC [67] 50 = true → Cond.castable (exN 50) "java/lang/ArithmeticException" ∈ nwT) ∧ (¬ inC [67] 50 = true → (exN 50, "java/lang/ArithmeticException") ∈ ncT) := ⟨fun h => absurd h (by decide), fun _ => ncr_510⟩
theorem ncr_509 : ("LibraryDeskModel$Broken", "java/lang/ArithmeticException") ∈ ncT := List.mem_of_getElem? (i := 509) rfl
theorem xr_java_lang_ArithmeticException_49 : (inC [67] 49 = true → Cond.castable (exN 49) "java/lang/ArithmeticException" ∈ nwT) ∧ (¬ inC [67] 49 = true → (exN 49, "java/lang/ArithmeticException") ∈ ncT) := ⟨fun h => absurd h (by decide), fun _ => ncr_509⟩
theorem ncr_508 : ("LibraryDesk$Broken", "java/lang/ArithmeticException") ∈ ncT := List.mem_of_getElem? (i := 508) rfl
theorem xr_java_lang_ArithmeticException_48 : (inC [67] 48 = true → Cond.castable (exN 48) "java/lang/ArithmeticException" ∈ nwT) ∧ (¬ inC [67] 48 = true → (exN 48, "java/lang/ArithmeticException") ∈ ncT) := ⟨fun h => absurd h (by decide), fun _ => ncr_508⟩
theorem hdd_Desk_whole_ : yX1_whole.cls ≠ "java/lang/invoke/MethodHandle" ∧ yX1_whole.cls ≠ "java/lang/invoke/VarHandle" ∧ (parseMethodDescriptor yX1_whole.desc).map (fun d => d.parameters.length) = some 4 := by decide +kernel
theorem mok_Desk_whole : MOK m_Desk_whole := ⟨by decide +kernel, by decide, cd_Desk_whole, pg_Desk_whole⟩
theorem hdd_Desk_decimal_ : yX1_decimal.cls ≠ "java/lang/invoke/MethodHandle" ∧ yX1_decimal.cls ≠ "java/lang/invoke/VarHandle" ∧ (parseMethodDescriptor yX1_decimal.desc).map (fun d => d.parameters.length) = some 5 := by decide +kernel
theorem mok_Desk_decimal : MOK m_Desk_decimal := ⟨by decide +kernel, by decide, cd_Desk_decimal, pg_Desk_decimal⟩
theorem hdd_Desk_tell_ : yX1_tell.cls ≠ "java/lang/invoke/MethodHandle" ∧ yX1_tell.cls ≠ "java/lang/invoke/VarHandle" ∧ (parseMethodDescriptor yX1_tell.desc).map (fun d => d.parameters.length) = some 2 := by decide +kernel
theorem mok_Desk_tell : MOK m_Desk_tell := ⟨by decide +kernel, by decide, cd_Desk_tell, pg_Desk_tell⟩
theorem hdd_Desk_order_ : yX1_order.cls ≠ "java/lang/invoke/MethodHandle" ∧ yX1_order.cls ≠ "java/lang/invoke/VarHandle" ∧ (parseMethodDescriptor yX1_order.desc).map (fun d => d.parameters.length) = some 2 := by decide +kernel
theorem mok_Desk_order : MOK m_Desk_order := ⟨by decide +kernel, by decide, cd_Desk_order, pg_Desk_order⟩
theorem hdd_Desk_read_ : yX1_read.cls ≠ "java/lang/invoke/MethodHandle" ∧ yX1_read.cls ≠ "java/lang/invoke/VarHandle" ∧ (parseMethodDescriptor yX1_read.desc).map (fun d => d.parameters.length) = some 2 := by decide +kernel
theorem mok_Desk_read : MOK m_Desk_read := ⟨by decide +kernel, by decide, cd_Desk_read, pg_Desk_read⟩
theorem hdd_Desk_show_ : yX1_show.cls ≠ "java/lang/invoke/MethodHandle" ∧ yX1_show.cls ≠ "java/lang/invoke/VarHandle" ∧ (parseMethodDescriptor yX1_show.desc).map (fun d => d.parameters.length) = some 2 := by decide +kernel
theorem mok_Desk_show : MOK m_Desk_show := ⟨by decide +kernel, by decide, cd_Desk_show, pg_Desk_show⟩
theorem hdd_Desk_stream_ : yX1_stream.cls ≠ "java/lang/invoke/MethodHandle" ∧ yX1_stream.cls ≠ "java/lang/invoke/VarHandle" ∧ (parseMethodDescriptor yX1_stream.desc).map (fun d => d.parameters.length) = some 0 := by decide +kernel
theorem mok_Desk_stream : MOK m_Desk_stream := ⟨by decide +kernel, by decide, cd_Desk_stream, pg_Desk_stream⟩
theorem hdd_Desk_thread_ : yX1_thread.cls ≠ "java/lang/invoke/MethodHandle" ∧ yX1_thread.cls ≠ "java/lang/invoke/VarHandle" ∧ (parseMethodDescriptor yX1_thread.desc).map (fun d => d.parameters.length) = some 0 := by decide +kernel
theorem mok_Desk_thread : MOK m_Desk_thread := ⟨by decide +kernel, by decide, cd_Desk_thread, pg_Desk_thread⟩
theorem hdd_Desk_step_ : yX1_step.cls ≠ "java/lang/invoke/MethodHandle" ∧ yX1_step.cls ≠ "java/lang/invoke/VarHandle" ∧ (parseMethodDescriptor yX1_step.desc).map (fun d => d.parameters.length) = some 1 := by decide +kernel
theorem mok_Desk_step : MOK m_Desk_step := ⟨by decide +kernel, by decide, cd_Desk_step, pg_Desk_step⟩
theorem hdd_Desk_run_ : yX1_run.cls ≠ "java/lang/invoke/MethodHandle" ∧ yX1_run.cls ≠ "java/lang/invoke/VarHandle" ∧ (parseMethodDescriptor yX1_run.desc).map (fun d => d.parameters.length) = some 2 := by decide +kernel
theorem mok_Desk_run : MOK m_Desk_run := ⟨by decide +kernel, by decide, cd_Desk_run, pg_Desk_run⟩
theorem hdd_Desk_tick_ : yX1_tick.cls ≠ "java/lang/invoke/MethodHandle" ∧ yX1_tick.cls ≠ "java/lang/invoke/VarHandle" ∧ (parseMethodDescriptor yX1_tick.desc).map (fun d => d.parameters.length) = some 1 := by decide +kernel
theorem mok_Desk_tick : MOK m_Desk_tick := ⟨by decide +kernel, by decide, cd_Desk_tick, pg_Desk_tick⟩
theorem hdd_Desk_interrupt_ : yX1_interrupt.cls ≠ "java/lang/invoke/MethodHandle" ∧ yX1_interrupt.cls ≠ "java/lang/invoke/VarHandle" ∧ (parseMethodDescriptor yX1_interrupt.desc).map (fun d => d.parameters.length) = some 1 := by decide +kernel
theorem mok_Desk_interrupt : MOK m_Desk_interrupt := ⟨by decide +kernel, by decide, cd_Desk_interrupt, pg_Desk_interrupt⟩
theorem hdd_Desk_look_ : yX1_look.cls ≠ "java/lang/invoke/MethodHandle" ∧ yX1_look.cls ≠ "java/lang/invoke/VarHandle" ∧ (parseMethodDescriptor yX1_look.desc).map (fun d => d.parameters.length) = some 2 := by decide +kernel
theorem mok_Desk_look : MOK m_Desk_look := ⟨by decide +kernel, by decide, cd_Desk_look, pg_Desk_look⟩
theorem hdd_Desk_sync_ : yX1_sync.cls ≠ "java/lang/invoke/MethodHandle" ∧ yX1_sync.cls ≠ "java/lang/invoke/VarHandle" ∧ (parseMethodDescriptor yX1_sync.desc).map (fun d => d.parameters.length) = some 2 := by decide +kernel
theorem mok_Desk_sync : MOK m_Desk_sync := ⟨by decide +kernel, by decide, cd_Desk_sync, pg_Desk_sync⟩
theorem hdd_Desk_date_ : yX1_date.cls ≠ "java/lang/invoke/MethodHandle" ∧ yX1_date.cls ≠ "java/lang/invoke/VarHandle" ∧ (parseMethodDescriptor yX1_date.desc).map (fun d => d.parameters.length) = some 3 := by decide +kernel
theorem mok_Desk_date : MOK m_Desk_date := ⟨by decide +kernel, by decide, cd_Desk_date, pg_Desk_date⟩
theorem hdd_Desk_part_ : yX1_part.cls ≠ "java/lang/invoke/MethodHandle" ∧ yX1_part.cls ≠ "java/lang/invoke/VarHandle" ∧ (parseMethodDescriptor yX1_part.desc).map (fun d => d.parameters.length) = some 2 := by decide +kernel
theorem mok_Desk_part : MOK m_Desk_part := ⟨by decide +kernel, by decide, cd_Desk_part, pg_Desk_part⟩
theorem hdd_Desk_plus_ : yX1_plus.cls ≠ "java/lang/invoke/MethodHandle" ∧ yX1_plus.cls ≠ "java/lang/invoke/VarHandle" ∧ (parseMethodDescriptor yX1_plus.desc).map (fun d => d.parameters.length) = some 3 := by decide +kernel
theorem mok_Desk_plus : MOK m_Desk_plus := ⟨by decide +kernel, by decide, cd_Desk_plus, pg_Desk_plus⟩
theorem hdd_Desk_between_ : yX1_between.cls ≠ "java/lang/invoke/MethodHandle" ∧ yX1_between.cls ≠ "java/lang/invoke/VarHandle" ∧ (parseMethodDescriptor yX1_between.desc).map (fun d => d.parameters.length) = some 3 := by decide +kernel
theorem mok_Desk_between : MOK m_Desk_between := ⟨by decide +kernel, by decide, cd_Desk_between, pg_Desk_between⟩
theorem hdd_Desk_word_ : yX1_word.cls ≠ "java/lang/invoke/MethodHandle" ∧ yX1_word.cls ≠ "java/lang/invoke/VarHandle" ∧ (parseMethodDescriptor yX1_word.desc).map (fun d => d.parameters.length) = some 1 := by decide +kernel
theorem mok_Desk_word : MOK m_Desk_word := ⟨by decide +kernel, by decide, cd_Desk_word, pg_Desk_word⟩
theorem hdd_Desk_count_ : yX1_count.cls ≠ "java/lang/invoke/MethodHandle" ∧ yX1_count.cls ≠ "java/lang/invoke/VarHandle" ∧ (parseMethodDescriptor yX1_count.desc).map (fun d => d.parameters.length) = some 1 := by decide +kernel
theorem mok_Desk_count : MOK m_Desk_count := ⟨by decide +kernel, by decide, cd_Desk_count, pg_Desk_count⟩
theorem clr_12 : clT[clI 12]? = some (RX2, TX2, 2) := rfl
theorem nf_Desk_35 : NF "LibraryDesk" 35 12 2 := ⟨RX2, TX2, tyX2, by decide, clr_12, in_X2, tyX2_ok, q578, q579, q509, by decide +kernel⟩
theorem nd_11 : va_nd ((flT 11).map (·.2)) = true := by decide +kernel
theorem pf_Desk_init_31_11 : PF m_Desk_init "LibraryDesk" "LibraryDesk" "LibraryDesk" 31 2 1 (.array .byte) 11 := ⟨RX1, TX1, 21, 0, tyX1, by decide, clr_11, in_X1, tyX1_ok, nmX1, by decide, rfl, nd_11, Or.inr (Or.inr ⟨q1066, rfl, rfl, rfl⟩), rfl, by decide +kernel⟩
theorem pf_Desk_init_38_11 : PF m_Desk_init "LibraryDesk" "LibraryDesk" "LibraryDesk" 38 2 3 (.object "LibraryDesk$Out") 11 := ⟨RX1, TX1, 21, 2, tyX1, by decide, clr_11, in_X1, tyX1_ok, nmX1, by decide, rfl, nd_11, Or.inr (Or.inr ⟨q1068, rfl, rfl, rfl⟩), rfl, by decide +kernel⟩
theorem hdd_Out_init_ : yX2_init.cls ≠ "java/lang/invoke/MethodHandle" ∧ yX2_init.cls ≠ "java/lang/invoke/VarHandle" ∧ (parseMethodDescriptor yX2_init.desc).map (fun d => d.parameters.length) = some 0 := by decide +kernel
theorem mok_Out_init : MOK m_Out_init := ⟨by decide +kernel, by decide, cd_Out_init, pg_Out_init⟩
theorem pf_Desk_init_42_11 : PF m_Desk_init "LibraryDesk" "LibraryDesk" "LibraryDesk" 42 2 4 (.object "LibraryDesk$Out") 11 := ⟨RX1, TX1, 21, 3, tyX1, by decide, clr_11, in_X1, tyX1_ok, nmX1, by decide, rfl, nd_11, Or.inr (Or.inr ⟨q1069, rfl, rfl, rfl⟩), rfl, by decide +kernel⟩
theorem pf_Desk_45_11 {m : Nat} : PF m "LibraryDesk" "LibraryDesk" "LibraryDesk" 45 0 5 .int 11 := ⟨RX1, TX1, 21, 4, tyX1, by decide, clr_11, in_X1, tyX1_ok, nmX1, by decide, rfl, nd_11, Or.inl ⟨q1070, rfl⟩, rfl, by decide +kernel⟩
theorem pf_Desk_init_55_11 : PF m_Desk_init "LibraryDesk" "LibraryDesk" "LibraryDesk" 55 2 8 (.array .int) 11 := ⟨RX1, TX1, 21, 7, tyX1, by decide, clr_11, in_X1, tyX1_ok, nmX1, by decide, rfl, nd_11, Or.inr (Or.inr ⟨q1073, rfl, rfl, rfl⟩), rfl, by decide +kernel⟩
theorem pf_Desk_init_51_11 : PF m_Desk_init "LibraryDesk" "LibraryDesk" "LibraryDesk" 51 2 7 (.array (.object "LibraryDesk$Thing")) 11 := ⟨RX1, TX1, 21, 6, tyX1, by decide, clr_11, in_X1, tyX1_ok, nmX1, by decide, rfl, nd_11, Or.inr (Or.inr ⟨q1072, rfl, rfl, rfl⟩), rfl, by decide +kernel⟩
theorem clr_13 : clT[clI 13]? = some (RX3, TX3, 2) := rfl
theorem nf_Desk_62 : NF "LibraryDesk" 62 13 2 := ⟨RX3, TX3, tyX3, by decide, clr_13, in_X3, tyX3_ok, q597, q598, q510, by decide +kernel⟩
theorem pf_Desk_init_59_11 : PF m_Desk_init "LibraryDesk" "LibraryDesk" "LibraryDesk" 59 2 9 (.array (.object "LibraryDesk$Thing")) 11 := ⟨RX1, TX1, 21, 8, tyX1, by decide, clr_11, in_X1, tyX1_ok, nmX1, by decide, rfl, nd_11, Or.inr (Or.inr ⟨q1074, rfl, rfl, rfl⟩), rfl, by decide +kernel⟩
theorem clr_14 : clT[clI 14]? = some (RX4, TX4, 15) := rfl
theorem nf_Desk_69 : NF "LibraryDesk" 69 14 15 := ⟨RX4, TX4, tyX4, by decide, clr_14, in_X4, tyX4_ok, q611, q612, q511, by decide +kernel⟩
theorem pf_Desk_init_65_11 : PF m_Desk_init "LibraryDesk" "LibraryDesk" "LibraryDesk" 65 2 11 (.object "LibraryDesk$ListWork") 11 := ⟨RX1, TX1, 21, 10, tyX1, by decide, clr_11, in_X1, tyX1_ok, nmX1, by decide, rfl, nd_11, Or.inr (Or.inr ⟨q1076, rfl, rfl, rfl⟩), rfl, by decide +kernel⟩
theorem hdd_ListWork_init_ : yX3_init.cls ≠ "java/lang/invoke/MethodHandle" ∧ yX3_init.cls ≠ "java/lang/invoke/VarHandle" ∧ (parseMethodDescriptor yX3_init.desc).map (fun d => d.parameters.length) = some 0 := by decide +kernel
theorem mok_ListWork_init : MOK m_ListWork_init := ⟨by decide +kernel, by decide, cd_ListWork_init, pg_ListWork_init⟩
theorem pf_Desk_init_72_11 : PF m_Desk_init "LibraryDesk" "LibraryDesk" "LibraryDesk" 72 2 12 (.object "LibraryDesk$PatternReade\x72") 11 := ⟨RX1, TX1, 21, 11, tyX1, by decide, clr_11, in_X1, tyX1_ok, nmX1, by decide, rfl, nd_11, Or.inr (Or.inr ⟨q1077, rfl, rfl, rfl⟩), rfl, by decide +kernel⟩
theorem hdd_PatternReader_init_ : yX4_init.cls ≠ "java/lang/invoke/MethodHandle" ∧ yX4_init.cls ≠ "java/lang/invoke/VarHandle" ∧ (parseMethodDescriptor yX4_init.desc).map (fun d => d.parameters.length) = some 0 := by decide +kernel
theorem mok_PatternReader_init : MOK m_PatternReader_init := ⟨by decide +kernel, by decide, cd_PatternReader_init, pg_PatternReader_init⟩
theorem clr_15 : clT[clI 15]? = some (RX5, TX5, 11) := rfl
theorem nf_Desk_76 : NF "LibraryDesk" 76 15 11 := ⟨RX5, TX5, tyX5, by decide, clr_15, in_X5, tyX5_ok, q664, q665, q512, by decide +kernel⟩
theorem clr_16 : clT[clI 16]? = some (RX6, TX6, 13) := rfl
theorem nf_Desk_83 : NF "LibraryDesk" 83 16 13 := ⟨RX6, TX6, tyX6, by decide, clr_16, in_X6, tyX6_ok, q711, q712, q513, by decide +kernel⟩
theorem pf_Desk_init_79_11 : PF m_Desk_init "LibraryDesk" "LibraryDesk" "LibraryDesk" 79 2 13 (.object "LibraryDesk$Matche\x72") 11 := ⟨RX1, TX1, 21, 12, tyX1, by decide, clr_11, in_X1, tyX1_ok, nmX1, by decide, rfl, nd_11, Or.inr (Or.inr ⟨q1078, rfl, rfl, rfl⟩), rfl, by decide +kernel⟩
theorem hdd_Matcher_init_ : yX5_init.cls ≠ "java/lang/invoke/MethodHandle" ∧ yX5_init.cls ≠ "java/lang/invoke/VarHandle" ∧ (parseMethodDescriptor yX5_init.desc).map (fun d => d.parameters.length) = some 0 := by decide +kernel
theorem mok_Matcher_init : MOK m_Matcher_init := ⟨by decide +kernel, by decide, cd_Matcher_init, pg_Matcher_init⟩
theorem pf_Desk_init_86_11 : PF m_Desk_init "LibraryDesk" "LibraryDesk" "LibraryDesk" 86 2 14 (.object "LibraryDesk$Forme\x72") 11 := ⟨RX1, TX1, 21, 13, tyX1, by decide, clr_11, in_X1, tyX1_ok, nmX1, by decide, rfl, nd_11, Or.inr (Or.inr ⟨q1079, rfl, rfl, rfl⟩), rfl, by decide +kernel⟩
theorem hdd_Former_init_ : yX6_init.cls ≠ "java/lang/invoke/MethodHandle" ∧ yX6_init.cls ≠ "java/lang/invoke/VarHandle" ∧ (parseMethodDescriptor yX6_init.desc).map (fun d => d.parameters.length) = some 0 := by decide +kernel
theorem mok_Former_init : MOK m_Former_init := ⟨by decide +kernel, by decide, cd_Former_init, pg_Former_init⟩
theorem hdd_Reckoner_init_ : yX7_init.cls ≠ "java/lang/invoke/MethodHandle" ∧ yX7_init.cls ≠ "java/lang/invoke/VarHandle" ∧ (parseMethodDescriptor yX7_init.desc).map (fun d => d.parameters.length) = some 0 := by decide +kernel
theorem mok_Reckoner_init : MOK m_Reckoner_init := ⟨by decide +kernel, by decide, cd_Reckoner_init, pg_Reckoner_init⟩
theorem clr_17 : clT[clI 17]? = some (RX7, TX7, 9) := rfl
theorem nf_Desk_90 : NF "LibraryDesk" 90 17 9 := ⟨RX7, TX7, tyX7, by decide, clr_17, in_X7, tyX7_ok, q761, q762, q514, by decide +kernel⟩
theorem clr_19 : clT[clI 19]? = some (RX9, TX9, 7) := rfl
theorem nf_Desk_97 : NF "LibraryDesk" 97 19 7 := ⟨RX9, TX9, tyX9, by decide, clr_19, in_X9, tyX9_ok, q821, q822, q516, by decide +kernel⟩
theorem pf_Desk_init_93_11 : PF m_Desk_init "LibraryDesk" "LibraryDesk" "LibraryDesk" 93 2 15 (.object "LibraryDesk$Reckone\x72") 11 := ⟨RX1, TX1, 21, 14, tyX1, by decide, clr_11, in_X1, tyX1_ok, nmX1, by decide, rfl, nd_11, Or.inr (Or.inr ⟨q1080, rfl, rfl, rfl⟩), rfl, by decide +kernel⟩
theorem pf_Desk_init_102_11 : PF m_Desk_init "LibraryDesk" "LibraryDesk" "LibraryDesk" 102 2 16 (.object "LibraryDesk$Decimals") 11 := ⟨RX1, TX1, 21, 15, tyX1, by decide, clr_11, in_X1, tyX1_ok, nmX1, by decide, rfl, nd_11, Or.inr (Or.inr ⟨q1081, rfl, rfl, rfl⟩), rfl, by decide +kernel⟩
theorem hdd_Decimals_init_ : yX9_init.cls ≠ "java/lang/invoke/MethodHandle" ∧ yX9_init.cls ≠ "java/lang/invoke/VarHandle" ∧ (parseMethodDescriptor yX9_init.desc).map (fun d => d.parameters.length) = some 1 := by decide +kernel
theorem mok_Decimals_init : MOK m_Decimals_init := ⟨by decide +kernel, by decide, cd_Decimals_init, pg_Decimals_init⟩
theorem gf_Desk_93_11 : GF "LibraryDesk" "LibraryDesk" "LibraryDesk" 93 2 15 11 := ⟨RX1, TX1, 21, 14, by decide, clr_11, in_X1, by decide, rfl, Or.inl q1080, rfl⟩
theorem clr_20 : clT[clI 20]? = some (RX10, TX10, 3) := rfl
theorem nf_Desk_106 : NF "LibraryDesk" 106 20 3 := ⟨RX10, TX10, tyX10, by decide, clr_20, in_X10, tyX10_ok, q851, q852, q517, by decide +kernel⟩
theorem clr_21 : clT[clI 21]? = some (RX11, TX11, 28) := rfl
theorem nf_Desk_113 : NF "LibraryDesk" 113 21 28 := ⟨RX11, TX11, tyX11, by decide, clr_21, in_X11, tyX11_ok, q871, q872, q518, by decide +kernel⟩
theorem pf_Desk_init_109_11 : PF m_Desk_init "LibraryDesk" "LibraryDesk" "LibraryDesk" 109 2 17 (.object "LibraryDesk$Numerals") 11 := ⟨RX1, TX1, 21, 16, tyX1, by decide, clr_11, in_X1, tyX1_ok, nmX1, by decide, rfl, nd_11, Or.inr (Or.inr ⟨q1082, rfl, rfl, rfl⟩), rfl, by decide +kernel⟩
theorem hdd_Numerals_init_ : yX10_init.cls ≠ "java/lang/invoke/MethodHandle" ∧ yX10_init.cls ≠ "java/lang/invoke/VarHandle" ∧ (parseMethodDescriptor yX10_init.desc).map (fun d => d.parameters.length) = some 0 := by decide +kernel
theorem mok_Numerals_init : MOK m_Numerals_init := ⟨by decide +kernel, by decide, cd_Numerals_init, pg_Numerals_init⟩
theorem pf_Desk_init_116_11 : PF m_Desk_init "LibraryDesk" "LibraryDesk" "LibraryDesk" 116 2 18 (.object "LibraryDesk$Streame\x72") 11 := ⟨RX1, TX1, 21, 17, tyX1, by decide, clr_11, in_X1, tyX1_ok, nmX1, by decide, rfl, nd_11, Or.inr (Or.inr ⟨q1083, rfl, rfl, rfl⟩), rfl, by decide +kernel⟩
theorem hdd_Streamer_init_ : yX11_init.cls ≠ "java/lang/invoke/MethodHandle" ∧ yX11_init.cls ≠ "java/lang/invoke/VarHandle" ∧ (parseMethodDescriptor yX11_init.desc).map (fun d => d.parameters.length) = some 0 := by decide +kernel
theorem mok_Streamer_init : MOK m_Streamer_init := ⟨by decide +kernel, by decide, cd_Streamer_init, pg_Streamer_init⟩
theorem clr_23 : clT[clI 23]? = some (RX13, TX13, 21) := rfl
theorem nf_Desk_120 : NF "LibraryDesk" 120 23 21 := ⟨RX13, TX13, tyX13, by decide, clr_23, in_X13, tyX13_ok, q993, q994, q520, by decide +kernel⟩
theorem pf_Desk_init_125_11 : PF m_Desk_init "LibraryDesk" "LibraryDesk" "LibraryDesk" 125 2 19 (.object "LibraryDesk$Threads") 11 := ⟨RX1, TX1, 21, 18, tyX1, by decide, clr_11, in_X1, tyX1_ok, nmX1, by decide, rfl, nd_11, Or.inr (Or.inr ⟨q1084, rfl, rfl, rfl⟩), rfl, by decide +kernel⟩
theorem hdd_Threads_init_ : yX13_init.cls ≠ "java/lang/invoke/MethodHandle" ∧ yX13_init.cls ≠ "java/lang/invoke/VarHandle" ∧ (parseMethodDescriptor yX13_init.desc).map (fun d => d.parameters.length) = some 1 := by decide +kernel
theorem mok_Threads_init : MOK m_Threads_init := ⟨by decide +kernel, by decide, cd_Threads_init, pg_Threads_init⟩
theorem gf_Desk_51_11 : GF "LibraryDesk" "LibraryDesk" "LibraryDesk" 51 2 7 11 := ⟨RX1, TX1, 21, 6, by decide, clr_11, in_X1, by decide, rfl, Or.inl q1072, rfl⟩
theorem pf_Desk_init_129_11 : PF m_Desk_init "LibraryDesk" "LibraryDesk" "LibraryDesk" 129 2 20 (.array .int) 11 := ⟨RX1, TX1, 21, 19, tyX1, by decide, clr_11, in_X1, tyX1_ok, nmX1, by decide, rfl, nd_11, Or.inr (Or.inr ⟨q1085, rfl, rfl, rfl⟩), rfl, by decide +kernel⟩
theorem pf_Desk_init_132_11 : PF m_Desk_init "LibraryDesk" "LibraryDesk" "LibraryDesk" 132 2 21 (.array .int) 11 := ⟨RX1, TX1, 21, 20, tyX1, by decide, clr_11, in_X1, tyX1_ok, nmX1, by decide, rfl, nd_11, Or.inr (Or.inr ⟨q1086, rfl, rfl, rfl⟩), rfl, by decide +kernel⟩
theorem hdd_Threads_dead_ : yX13_dead.cls ≠ "java/lang/invoke/MethodHandle" ∧ yX13_dead.cls ≠ "java/lang/invoke/VarHandle" ∧ (parseMethodDescriptor yX13_dead.desc).map (fun d => d.parameters.length) = some 0 := by decide +kernel
theorem mok_Threads_dead : MOK m_Threads_dead := ⟨by decide +kernel, by decide, cd_Threads_dead, pg_Threads_dead⟩
theorem gf_Desk_125_11 : GF "LibraryDesk" "LibraryDesk" "LibraryDesk" 125 2 19 11 := ⟨RX1, TX1, 21, 18, by decide, clr_11, in_X1, by decide, rfl, Or.inl q1084, rfl⟩
theorem gf_Desk_135_11 : GF "LibraryDesk" "LibraryDesk" "LibraryDesk" 135 0 2 11 := ⟨RX1, TX1, 21, 1, by decide, clr_11, in_X1, by decide, rfl, Or.inl q1067, rfl⟩
theorem hdd_Desk_within_ : yX1_within.cls ≠ "java/lang/invoke/MethodHandle" ∧ yX1_within.cls ≠ "java/lang/invoke/VarHandle" ∧ (parseMethodDescriptor yX1_within.desc).map (fun d => d.parameters.length) = some 1 := by decide +kernel
theorem mok_Desk_within : MOK m_Desk_within := ⟨by decide +kernel, by decide, cd_Desk_within, pg_Desk_within⟩
theorem hdd_Desk_four_ : yX1_four.cls ≠ "java/lang/invoke/MethodHandle" ∧ yX1_four.cls ≠ "java/lang/invoke/VarHandle" ∧ (parseMethodDescriptor yX1_four.desc).map (fun d => d.parameters.length) = some 1 := by decide +kernel
theorem mok_Desk_four : MOK m_Desk_four := ⟨by decide +kernel, by decide, cd_Desk_four, pg_Desk_four⟩
theorem thr_A : ∀ w ∈ Bundle.throwableAtoms, wOK w := List.forall_mem_cons.mpr ⟨fun _ => Or.inl q522, List.forall_mem_cons.mpr ⟨fun _ => Or.inl q1233, List.forall_mem_cons.mpr ⟨fun _ => Or.inl q1179, List.forall_mem_cons.mpr ⟨fun _ => Or.inl q1193, List.forall_mem_cons.mpr ⟨fun _ => Or.inl q1196, List.forall_mem_cons.mpr ⟨fun _ => Or.inl q1198, List.forall_mem_cons.mpr ⟨fun _ => Or.inl q1234, List.forall_mem_cons.mpr ⟨fun _ => Or.inl q1235, List.forall_mem_cons.mpr ⟨fun _ => Or.inl q576, List.forall_mem_cons.mpr ⟨fun _ => Or.inl q577, List.forall_mem_cons.mpr ⟨fun _ => Or.inl q1173, List.forall_mem_cons.mpr ⟨fun _ => Or.inl q1178, List.forall_mem_cons.mpr ⟨fun _ => Or.inl q1194, List.forall_mem_cons.mpr ⟨fun _ => Or.inl q1201, List.forall_mem_cons.mpr ⟨fun _ => Or.inl q1227, List.forall_mem_cons.mpr ⟨fun _ => Or.inl q1202, List.forall_mem_cons.mpr ⟨fun _ => Or.inl q1228, List.forall_mem_cons.mpr ⟨fun _ => Or.inl q1203, List.forall_mem_cons.mpr ⟨fun _ => Or.inl q1229, List.forall_mem_cons.mpr ⟨fun _ => Or.inl q1174, List.forall_mem_cons.mpr ⟨fun h => absurd h (by decide), List.forall_mem_cons.mpr ⟨fun _ => Or.inl q1176, List.forall_mem_cons.mpr ⟨fun h => absurd h (by decide), List.forall_mem_cons.mpr ⟨fun _ => Or.inl q1230, fun _ h => absurd h List.not_mem_nil⟩⟩⟩⟩⟩⟩⟩⟩⟩⟩⟩⟩⟩⟩⟩⟩⟩⟩⟩⟩⟩⟩⟩⟩
theorem ef_Desk_19 : EXF "LibraryDesk" "java/lang/IndexOutOfBoundsException" ["java/lang/RuntimeException", "java/lang/Exception"] 19 21 60 := ⟨by decide, rfl, ⟨TEx, rfl⟩, by decide, by decide +kernel, by decide +kernel, q1248, q525, List.forall_mem_append.mpr ⟨List.forall_mem_append.mpr ⟨thr_A, List.forall_mem_cons.mpr ⟨fun _ => Or.inl q1258, List.forall_mem_cons.mpr ⟨fun _ => Or.inl q1259, List.forall_mem_cons.mpr ⟨fun _ => Or.inl q1260, List.forall_mem_cons.mpr ⟨fun _ => Or.inl q1261, List.forall_mem_cons.mpr ⟨fun _ => Or.inr ⟨nw1220, rfl⟩, List.forall_mem_cons.mpr ⟨fun _ => Or.inl q1261, List.forall_mem_cons.mpr ⟨fun _ => Or.inl q1262, List.forall_mem_cons.mpr ⟨fun _ => Or.inl q1263, List.forall_mem_cons.mpr ⟨fun _ => Or.inl q1264, List.forall_mem_cons.mpr ⟨fun _ => Or.inr ⟨nw1222, rfl⟩, List.forall_mem_cons.mpr ⟨fun _ => Or.inl q1264, List.forall_mem_cons.mpr ⟨fun _ => Or.inl q1265, List.forall_mem_cons.mpr ⟨fun _ => Or.inl q1266, List.forall_mem_cons.mpr ⟨fun _ => Or.inl q1234, List.forall_mem_cons.mpr ⟨fun _ => Or.inr ⟨nw1224, rfl⟩, fun _ h => absurd h List.not_mem_nil⟩⟩⟩⟩⟩⟩⟩⟩⟩⟩⟩⟩⟩⟩⟩⟩, List.forall_mem_cons.mpr ⟨fun _ => Or.inl q1257, List.forall_mem_cons.mpr ⟨fun _ => Or.inl q1249, List.forall_mem_cons.mpr ⟨fun _ => Or.inr ⟨nw1250, rfl⟩, List.forall_mem_cons.mpr ⟨fun _ => Or.inl q1251, List.forall_mem_cons.mpr ⟨fun _ => Or.inl q1189, List.forall_mem_cons.mpr ⟨fun _ => Or.inl q1252, List.forall_mem_cons.mpr ⟨fun _ => Or.inl q1253, List.forall_mem_cons.mpr ⟨fun _ => Or.inl q1254, List.forall_mem_cons.mpr ⟨fun _ => Or.inl q1255, List.forall_mem_cons.mpr ⟨fun h => absurd h (by decide), List.forall_mem_cons.mpr ⟨fun h => absurd h (by decide), List.forall_mem_cons.mpr ⟨fun _ => Or.inl q1232, List.forall_mem_cons.mpr ⟨fun _ => Or.inl q1231, List.forall_mem_cons.mpr ⟨fun _ => Or.inl q1256, fun _ h => absurd h List.not_mem_nil⟩⟩⟩⟩⟩⟩⟩⟩⟩⟩⟩⟩⟩⟩⟩⟩
theorem gf_Desk_31_11 : GF "LibraryDesk" "LibraryDesk" "LibraryDesk" 31 2 1 11 := ⟨RX1, TX1, 21, 0, by decide, clr_11, in_X1, by decide, rfl, Or.inl q1066, rfl⟩
theorem pf_Desk_135_11 {m : Nat} : PF m "LibraryDesk" "LibraryDesk" "LibraryDesk" 135 0 2 .int 11 := ⟨RX1, TX1, 21, 1, tyX1, by decide, clr_11, in_X1, tyX1_ok, nmX1, by decide, rfl, nd_11, Or.inl ⟨q1067, rfl⟩, rfl, by decide +kernel⟩
theorem hdd_Desk_good_ : yX1_good.cls ≠ "java/lang/invoke/MethodHandle" ∧ yX1_good.cls ≠ "java/lang/invoke/VarHandle" ∧ (parseMethodDescriptor yX1_good.desc).map (fun d => d.parameters.length) = some 1 := by decide +kernel
theorem mok_Desk_good : MOK m_Desk_good := ⟨by decide +kernel, by decide, cd_Desk_good, pg_Desk_good⟩
theorem ef_Desk_1 : EXF "LibraryDesk" "java/lang/IllegalArgumentException" ["java/lang/RuntimeException", "java/lang/Exception"] 1 3 61 := ⟨by decide, rfl, ⟨TEx, rfl⟩, by decide, by decide +kernel, by decide +kernel, q1284, q528, List.forall_mem_append.mpr ⟨List.forall_mem_append.mpr ⟨thr_A, List.forall_mem_cons.mpr ⟨fun _ => Or.inl q1294, List.forall_mem_cons.mpr ⟨fun _ => Or.inl q1295, List.forall_mem_cons.mpr ⟨fun _ => Or.inl q1296, List.forall_mem_cons.mpr ⟨fun _ => Or.inl q1261, List.forall_mem_cons.mpr ⟨fun _ => Or.inr ⟨nw1220, rfl⟩, List.forall_mem_cons.mpr ⟨fun _ => Or.inl q1261, List.forall_mem_cons.mpr ⟨fun _ => Or.inl q1262, List.forall_mem_cons.mpr ⟨fun _ => Or.inl q1263, List.forall_mem_cons.mpr ⟨fun _ => Or.inl q1264, List.forall_mem_cons.mpr ⟨fun _ => Or.inr ⟨nw1222, rfl⟩, List.forall_mem_cons.mpr ⟨fun _ => Or.inl q1264, List.forall_mem_cons.mpr ⟨fun _ => Or.inl q1265, List.forall_mem_cons.mpr ⟨fun _ => Or.inl q1266, List.forall_mem_cons.mpr ⟨fun _ => Or.inl q1234, List.forall_mem_cons.mpr ⟨fun _ => Or.inr ⟨nw1224, rfl⟩, fun _ h => absurd h List.not_mem_nil⟩⟩⟩⟩⟩⟩⟩⟩⟩⟩⟩⟩⟩⟩⟩⟩, List.forall_mem_cons.mpr ⟨fun _ => Or.inl q1293, List.forall_mem_cons.mpr ⟨fun _ => Or.inl q1285, List.forall_mem_cons.mpr ⟨fun _ => Or.inr ⟨nw1286, rfl⟩, List.forall_mem_cons.mpr ⟨fun _ => Or.inl q1287, List.forall_mem_cons.mpr ⟨fun _ => Or.inl q1187, List.forall_mem_cons.mpr ⟨fun _ => Or.inl q1288, List.forall_mem_cons.mpr ⟨fun _ => Or.inl q1289, List.forall_mem_cons.mpr ⟨fun _ => Or.inl q1290, List.forall_mem_cons.mpr ⟨fun _ => Or.inl q1291, List.forall_mem_cons.mpr ⟨fun h => absurd h (by decide), List.forall_mem_cons.mpr ⟨fun h => absurd h (by decide), List.forall_mem_cons.mpr ⟨fun _ => Or.inl q1232, List.forall_mem_cons.mpr ⟨fun _ => Or.inl q1231, List.forall_mem_cons.mpr ⟨fun _ => Or.inl q1292, fun _ h => absurd h List.not_mem_nil⟩⟩⟩⟩⟩⟩⟩⟩⟩⟩⟩⟩⟩⟩⟩⟩
theorem hdd_Desk_isNegative_ : yX1_isNegative.cls ≠ "java/lang/invoke/MethodHandle" ∧ yX1_isNegative.cls ≠ "java/lang/invoke/VarHandle" ∧ (parseMethodDescriptor yX1_isNegative.desc).map (fun d => d.parameters.length) = some 2 := by decide +kernel
theorem mok_Desk_isNegative : MOK m_Desk_isNegative := ⟨by decide +kernel, by decide, cd_Desk_isNegative, pg_Desk_isNegative⟩
theorem ef_Desk_275 : EXF "LibraryDesk" "java/lang/NegativeArraySizeException" ["java/lang/RuntimeException", "java/lang/Exception"] 275 277 62 := ⟨by decide, rfl, ⟨TEx, rfl⟩, by decide, by decide +kernel, by decide +kernel, q1324, q529, List.forall_mem_append.mpr ⟨List.forall_mem_append.mpr ⟨thr_A, List.forall_mem_cons.mpr ⟨fun _ => Or.inl q1326, List.forall_mem_cons.mpr ⟨fun _ => Or.inl q1327, List.forall_mem_cons.mpr ⟨fun _ => Or.inl q1328, List.forall_mem_cons.mpr ⟨fun _ => Or.inl q1261, List.forall_mem_cons.mpr ⟨fun _ => Or.inr ⟨nw1220, rfl⟩, List.forall_mem_cons.mpr ⟨fun _ => Or.inl q1261, List.forall_mem_cons.mpr ⟨fun _ => Or.inl q1262, List.forall_mem_cons.mpr ⟨fun _ => Or.inl q1263, List.forall_mem_cons.mpr ⟨fun _ => Or.inl q1264, List.forall_mem_cons.mpr ⟨fun _ => Or.inr ⟨nw1222, rfl⟩, List.forall_mem_cons.mpr ⟨fun _ => Or.inl q1264, List.forall_mem_cons.mpr ⟨fun _ => Or.inl q1265, List.forall_mem_cons.mpr ⟨fun _ => Or.inl q1266, List.forall_mem_cons.mpr ⟨fun _ => Or.inl q1234, List.forall_mem_cons.mpr ⟨fun _ => Or.inr ⟨nw1224, rfl⟩, fun _ h => absurd h List.not_mem_nil⟩⟩⟩⟩⟩⟩⟩⟩⟩⟩⟩⟩⟩⟩⟩⟩, List.forall_mem_cons.mpr ⟨fun _ => Or.inl q1325, List.forall_mem_cons.mpr ⟨fun _ => Or.inl q1304, List.forall_mem_cons.mpr ⟨fun _ => Or.inr ⟨nw1315, rfl⟩, List.forall_mem_cons.mpr ⟨fun _ => Or.inl q1316, List.forall_mem_cons.mpr ⟨fun _ => Or.inl q1190, List.forall_mem_cons.mpr ⟨fun _ => Or.inl q1310, List.forall_mem_cons.mpr ⟨fun _ => Or.inl q1311, List.forall_mem_cons.mpr ⟨fun _ => Or.inl q1313, List.forall_mem_cons.mpr ⟨fun _ => Or.inl q1309, List.forall_mem_cons.mpr ⟨fun h => absurd h (by decide), List.forall_mem_cons.mpr ⟨fun h => absurd h (by decide), List.forall_mem_cons.mpr ⟨fun _ => Or.inl q1232, List.forall_mem_cons.mpr ⟨fun _ => Or.inl q1231, List.forall_mem_cons.mpr ⟨fun _ => Or.inl q1308, fun _ h => absurd h List.not_mem_nil⟩⟩⟩⟩⟩⟩⟩⟩⟩⟩⟩⟩⟩⟩⟩⟩
theorem hdd_Desk_isFit_ : yX1_isFit.cls ≠ "java/lang/invoke/MethodHandle" ∧ yX1_isFit.cls ≠ "java/lang/invoke/VarHandle" ∧ (parseMethodDescriptor yX1_isFit.desc).map (fun d => d.parameters.length) = some 3 := by decide +kernel
theorem mok_Desk_isFit : MOK m_Desk_isFit := ⟨by decide +kernel, by decide, cd_Desk_isFit, pg_Desk_isFit⟩
theorem hdd_Desk_free_ : yX1_free.cls ≠ "java/lang/invoke/MethodHandle" ∧ yX1_free.cls ≠ "java/lang/invoke/VarHandle" ∧ (parseMethodDescriptor yX1_free.desc).map (fun d => d.parameters.length) = some 0 := by decide +kernel
theorem mok_Desk_free : MOK m_Desk_free := ⟨by decide +kernel, by decide, cd_Desk_free, pg_Desk_free⟩
theorem hdd_Desk_fresh_ : yX1_fresh.cls ≠ "java/lang/invoke/MethodHandle" ∧ yX1_fresh.cls ≠ "java/lang/invoke/VarHandle" ∧ (parseMethodDescriptor yX1_fresh.desc).map (fun d => d.parameters.length) = some 1 := by decide +kernel
theorem mok_Desk_fresh : MOK m_Desk_fresh := ⟨by decide +kernel, by decide, cd_Desk_fresh, pg_Desk_fresh⟩
theorem hdd_Desk_begin_ : yX1_begin.cls ≠ "java/lang/invoke/MethodHandle" ∧ yX1_begin.cls ≠ "java/lang/invoke/VarHandle" ∧ (parseMethodDescriptor yX1_begin.desc).map (fun d => d.parameters.length) = some 3 := by decide +kernel
theorem mok_Desk_begin : MOK m_Desk_begin := ⟨by decide +kernel, by decide, cd_Desk_begin, pg_Desk_begin⟩
theorem hdd_Desk_keep_ : yX1_keep.cls ≠ "java/lang/invoke/MethodHandle" ∧ yX1_keep.cls ≠ "java/lang/invoke/VarHandle" ∧ (parseMethodDescriptor yX1_keep.desc).map (fun d => d.parameters.length) = some 2 := by decide +kernel
theorem mok_Desk_keep : MOK m_Desk_keep := ⟨by decide +kernel, by decide, cd_Desk_keep, pg_Desk_keep⟩
theorem hdd_Desk_state_ : yX1_state.cls ≠ "java/lang/invoke/MethodHandle" ∧ yX1_state.cls ≠ "java/lang/invoke/VarHandle" ∧ (parseMethodDescriptor yX1_state.desc).map (fun d => d.parameters.length) = some 1 := by decide +kernel
theorem mok_Desk_state : MOK m_Desk_state := ⟨by decide +kernel, by decide, cd_Desk_state, pg_Desk_state⟩
theorem ef_Desk_13 : EXF "LibraryDesk" "java/lang/IllegalStateException" ["java/lang/RuntimeException", "java/lang/Exception"] 13 15 63 := ⟨by decide, rfl, ⟨TEx, rfl⟩, by decide, by decide +kernel, by decide +kernel, q1339, q530, List.forall_mem_append.mpr ⟨List.forall_mem_append.mpr ⟨thr_A, List.forall_mem_cons.mpr ⟨fun _ => Or.inl q1349, List.forall_mem_cons.mpr ⟨fun _ => Or.inl q1350, List.forall_mem_cons.mpr ⟨fun _ => Or.inl q1351, List.forall_mem_cons.mpr ⟨fun _ => Or.inl q1261, List.forall_mem_cons.mpr ⟨fun _ => Or.inr ⟨nw1220, rfl⟩, List.forall_mem_cons.mpr ⟨fun _ => Or.inl q1261, List.forall_mem_cons.mpr ⟨fun _ => Or.inl q1262, List.forall_mem_cons.mpr ⟨fun _ => Or.inl q1263, List.forall_mem_cons.mpr ⟨fun _ => Or.inl q1264, List.forall_mem_cons.mpr ⟨fun _ => Or.inr ⟨nw1222, rfl⟩, List.forall_mem_cons.mpr ⟨fun _ => Or.inl q1264, List.forall_mem_cons.mpr ⟨fun _ => Or.inl q1265, List.forall_mem_cons.mpr ⟨fun _ => Or.inl q1266, List.forall_mem_cons.mpr ⟨fun _ => Or.inl q1234, List.forall_mem_cons.mpr ⟨fun _ => Or.inr ⟨nw1224, rfl⟩, fun _ h => absurd h List.not_mem_nil⟩⟩⟩⟩⟩⟩⟩⟩⟩⟩⟩⟩⟩⟩⟩⟩, List.forall_mem_cons.mpr ⟨fun _ => Or.inl q1348, List.forall_mem_cons.mpr ⟨fun _ => Or.inl q1340, List.forall_mem_cons.mpr ⟨fun _ => Or.inr ⟨nw1341, rfl⟩, List.forall_mem_cons.mpr ⟨fun _ => Or.inl q1342, List.forall_mem_cons.mpr ⟨fun _ => Or.inl q1188, List.forall_mem_cons.mpr ⟨fun _ => Or.inl q1343, List.forall_mem_cons.mpr ⟨fun _ => Or.inl q1344, List.forall_mem_cons.mpr ⟨fun _ => Or.inl q1345, List.forall_mem_cons.mpr ⟨fun _ => Or.inl q1346, List.forall_mem_cons.mpr ⟨fun h => absurd h (by decide), List.forall_mem_cons.mpr ⟨fun h => absurd h (by decide), List.forall_mem_cons.mpr ⟨fun _ => Or.inl q1232, List.forall_mem_cons.mpr ⟨fun _ => Or.inl q1231, List.forall_mem_cons.mpr ⟨fun _ => Or.inl q1347, fun _ h => absurd h List.not_mem_nil⟩⟩⟩⟩⟩⟩⟩⟩⟩⟩⟩⟩⟩⟩⟩⟩
theorem gf_Desk_223_11 : GF "LibraryDesk" "LibraryDesk" "LibraryDesk" 223 0 10 11 := ⟨RX1, TX1, 21, 9, by decide, clr_11, in_X1, by decide, rfl, Or.inl q1075, rfl⟩
theorem gf_Desk_59_11 : GF "LibraryDesk" "LibraryDesk" "LibraryDesk" 59 2 9 11 := ⟨RX1, TX1, 21, 8, by decide, clr_11, in_X1, by decide, rfl, Or.inl q1074, rfl⟩
theorem clr_44 : clT[clI 44]? = some (RX34, TX34, 10) := rfl
theorem gf_Desk_226_44 : GF "LibraryDesk" "LibraryDesk$Thing" "LibraryDesk" 226 0 273 44 := ⟨RX34, TX34, 10, 1, by decide, clr_44, in_X34, by decide, rfl, Or.inr nw1403, rfl⟩
theorem clr_43 : clT[clI 43]? = some (RX33, TX33, 11) := rfl
theorem gf_Desk_226_43 : GF "LibraryDesk" "LibraryDesk$Thing" "LibraryDesk" 226 0 273 43 := ⟨RX33, TX33, 11, 1, by decide, clr_43, in_X33, by decide, rfl, Or.inr nw1403, rfl⟩
theorem clr_42 : clT[clI 42]? = some (RX32, TX32, 4) := rfl
theorem gf_Desk_226_42 : GF "LibraryDesk" "LibraryDesk$Thing" "LibraryDesk" 226 0 273 42 := ⟨RX32, TX32, 4, 1, by decide, clr_42, in_X32, by decide, rfl, Or.inr nw1403, rfl⟩
theorem clr_41 : clT[clI 41]? = some (RX31, TX31, 3) := rfl
theorem gf_Desk_226_41 : GF "LibraryDesk" "LibraryDesk$Thing" "LibraryDesk" 226 0 273 41 := ⟨RX31, TX31, 3, 1, by decide, clr_41, in_X31, by decide, rfl, Or.inr nw1403, rfl⟩
theorem clr_40 : clT[clI 40]? = some (RX30, TX30, 6) := rfl
theorem gf_Desk_226_40 : GF "LibraryDesk" "LibraryDesk$Thing" "LibraryDesk" 226 0 273 40 := ⟨RX30, TX30, 6, 1, by decide, clr_40, in_X30, by decide, rfl, Or.inr nw1403, rfl⟩
theorem clr_39 : clT[clI 39]? = some (RX29, TX29, 6) := rfl
theorem gf_Desk_226_39 : GF "LibraryDesk" "LibraryDesk$Thing" "LibraryDesk" 226 0 273 39 := ⟨RX29, TX29, 6, 1, by decide, clr_39, in_X29, by decide, rfl, Or.inr nw1403, rfl⟩
theorem clr_38 : clT[clI 38]? = some (RX28, TX28, 13) := rfl
theorem gf_Desk_226_38 : GF "LibraryDesk" "LibraryDesk$Thing" "LibraryDesk" 226 0 273 38 := ⟨RX28, TX28, 13, 1, by decide, clr_38, in_X28, by decide, rfl, Or.inr nw1403, rfl⟩
theorem clr_37 : clT[clI 37]? = some (RX27, TX27, 4) := rfl
theorem gf_Desk_226_37 : GF "LibraryDesk" "LibraryDesk$Thing" "LibraryDesk" 226 0 273 37 := ⟨RX27, TX27, 4, 1, by decide, clr_37, in_X27, by decide, rfl, Or.inr nw1403, rfl⟩
theorem clr_36 : clT[clI 36]? = some (RX26, TX26, 3) := rfl
theorem gf_Desk_226_36 : GF "LibraryDesk" "LibraryDesk$Thing" "LibraryDesk" 226 0 273 36 := ⟨RX26, TX26, 3, 1, by decide, clr_36, in_X26, by decide, rfl, Or.inr nw1403, rfl⟩
theorem clr_35 : clT[clI 35]? = some (RX25, TX25, 8) := rfl
theorem gf_Desk_226_35 : GF "LibraryDesk" "LibraryDesk$Thing" "LibraryDesk" 226 0 273 35 := ⟨RX25, TX25, 8, 1, by decide, clr_35, in_X25, by decide, rfl, Or.inr nw1403, rfl⟩
theorem clr_34 : clT[clI 34]? = some (RX24, TX24, 10) := rfl
theorem gf_Desk_226_34 : GF "LibraryDesk" "LibraryDesk$Thing" "LibraryDesk" 226 0 273 34 := ⟨RX24, TX24, 10, 1, by decide, clr_34, in_X24, by decide, rfl, Or.inr nw1403, rfl⟩
theorem clr_33 : clT[clI 33]? = some (RX23, TX23, 11) := rfl
theorem gf_Desk_226_33 : GF "LibraryDesk" "LibraryDesk$Thing" "LibraryDesk" 226 0 273 33 := ⟨RX23, TX23, 11, 1, by decide, clr_33, in_X23, by decide, rfl, Or.inr nw1403, rfl⟩
theorem clr_31 : clT[clI 31]? = some (RX21, TX21, 11) := rfl
theorem gf_Desk_226_31 : GF "LibraryDesk" "LibraryDesk$Thing" "LibraryDesk" 226 0 273 31 := ⟨RX21, TX21, 11, 1, by decide, clr_31, in_X21, by decide, rfl, Or.inr nw1403, rfl⟩
theorem clr_29 : clT[clI 29]? = some (RX19, TX19, 6) := rfl
theorem gf_Desk_226_29 : GF "LibraryDesk" "LibraryDesk$Thing" "LibraryDesk" 226 0 273 29 := ⟨RX19, TX19, 6, 1, by decide, clr_29, in_X19, by decide, rfl, Or.inr nw1403, rfl⟩
theorem clr_27 : clT[clI 27]? = some (RX17, TX17, 3) := rfl
theorem gf_Desk_226_27 : GF "LibraryDesk" "LibraryDesk$Thing" "LibraryDesk" 226 0 273 27 := ⟨RX17, TX17, 3, 1, by decide, clr_27, in_X17, by decide, rfl, Or.inr nw1403, rfl⟩
theorem hdx_LibraryDesk_Thing_kind___I_0 : ("LibraryDesk$Thing" : String) ≠ "java/lang/invoke/MethodHandle" ∧ ("LibraryDesk$Thing" : String) ≠ "java/lang/invoke/VarHandle" ∧ (parseMethodDescriptor "()I").map (fun d => d.parameters.length) = some 0 := by decide +kernel
theorem mok_Thing_kind : MOK m_Thing_kind := ⟨by decide +kernel, by decide, cd_Thing_kind, pg_Thing_kind⟩
theorem hdd_Desk_create_ : yX1_create.cls ≠ "java/lang/invoke/MethodHandle" ∧ yX1_create.cls ≠ "java/lang/invoke/VarHandle" ∧ (parseMethodDescriptor yX1_create.desc).map (fun d => d.parameters.length) = some 1 := by decide +kernel
theorem mok_Desk_create : MOK m_Desk_create := ⟨by decide +kernel, by decide, cd_Desk_create, pg_Desk_create⟩
theorem aast_cs : ∀ c ∈ [27, 29, 31, 33, 34, 35, 36, 37, 38, 39, 40, 41, 42, 43, 44], 7 < c ∧ ∃ (C : String) (T : u_T) (N : Nat), clT[clI c]? = some (C, T, N) ∧ Cond.castable C "LibraryDesk$Thing" ∈ nwT := List.forall_mem_cons.mpr ⟨⟨by decide, RX17, TX17, 3, clr_27, nw6153⟩, List.forall_mem_cons.mpr ⟨⟨by decide, RX19, TX19, 6, clr_29, nw6154⟩, List.forall_mem_cons.mpr ⟨⟨by decide, RX21, TX21, 11, clr_31, nw6155⟩, List.forall_mem_cons.mpr ⟨⟨by decide, RX23, TX23, 11, clr_33, nw6156⟩, List.forall_mem_cons.mpr ⟨⟨by decide, RX24, TX24, 10, clr_34, nw6157⟩, List.forall_mem_cons.mpr ⟨⟨by decide, RX25, TX25, 8, clr_35, nw6158⟩, List.forall_mem_cons.mpr ⟨⟨by decide, RX26, TX26, 3, clr_36, nw6159⟩, List.forall_mem_cons.mpr ⟨⟨by decide, RX27, TX27, 4, clr_37, nw6160⟩, List.forall_mem_cons.mpr ⟨⟨by decide, RX28, TX28, 13, clr_38, nw6161⟩, List.forall_mem_cons.mpr ⟨⟨by decide, RX29, TX29, 6, clr_39, nw6162⟩, List.forall_mem_cons.mpr ⟨⟨by decide, RX30, TX30, 6, clr_40, nw6163⟩, List.forall_mem_cons.mpr ⟨⟨by decide, RX31, TX31, 3, clr_41, nw6164⟩, List.forall_mem_cons.mpr ⟨⟨by decide, RX32, TX32, 4, clr_42, nw6165⟩, List.forall_mem_cons.mpr ⟨⟨by decide, RX33, TX33, 11, clr_43, nw6166⟩, List.forall_mem_cons.mpr ⟨⟨by decide, RX34, TX34, 10, clr_44, nw6167⟩, fun _ h => absurd h List.not_mem_nil⟩⟩⟩⟩⟩⟩⟩⟩⟩⟩⟩⟩⟩⟩⟩
theorem pf_Desk_223_11 {m : Nat} : PF m "LibraryDesk" "LibraryDesk" "LibraryDesk" 223 0 10 .int 11 := ⟨RX1, TX1, 21, 9, tyX1, by decide, clr_11, in_X1, tyX1_ok, nmX1, by decide, rfl, nd_11, Or.inl ⟨q1075, rfl⟩, rfl, by decide +kernel⟩
theorem nf_Desk_179 : NF "LibraryDesk" 179 27 3 := ⟨RX17, TX17, tyX17, by decide, clr_27, in_X17, tyX17_ok, q1363, q1364, q533, by decide +kernel⟩
theorem nf_Desk_182 : NF "LibraryDesk" 182 29 6 := ⟨RX19, TX19, tyX19, by decide, clr_29, in_X19, tyX19_ok, q1411, q1412, q535, by decide +kernel⟩
theorem hdd_ListThing_init_ : yX17_init.cls ≠ "java/lang/invoke/MethodHandle" ∧ yX17_init.cls ≠ "java/lang/invoke/VarHandle" ∧ (parseMethodDescriptor yX17_init.desc).map (fun d => d.parameters.length) = some 0 := by decide +kernel
theorem mok_ListThing_init : MOK m_ListThing_init := ⟨by decide +kernel, by decide, cd_ListThing_init, pg_ListThing_init⟩
theorem nf_Desk_185 : NF "LibraryDesk" 185 31 11 := ⟨RX21, TX21, tyX21, by decide, clr_31, in_X21, tyX21_ok, q1432, q1433, q537, by decide +kernel⟩
theorem hdd_RingThing_init_ : yX19_init.cls ≠ "java/lang/invoke/MethodHandle" ∧ yX19_init.cls ≠ "java/lang/invoke/VarHandle" ∧ (parseMethodDescriptor yX19_init.desc).map (fun d => d.parameters.length) = some 0 := by decide +kernel
theorem mok_RingThing_init : MOK m_RingThing_init := ⟨by decide +kernel, by decide, cd_RingThing_init, pg_RingThing_init⟩
theorem nf_Desk_188 : NF "LibraryDesk" 188 33 11 := ⟨RX23, TX23, tyX23, by decide, clr_33, in_X23, tyX23_ok, q1508, q1509, q539, by decide +kernel⟩
theorem hdd_HashThing_init_ : yX21_init.cls ≠ "java/lang/invoke/MethodHandle" ∧ yX21_init.cls ≠ "java/lang/invoke/VarHandle" ∧ (parseMethodDescriptor yX21_init.desc).map (fun d => d.parameters.length) = some 0 := by decide +kernel
theorem mok_HashThing_init : MOK m_HashThing_init := ⟨by decide +kernel, by decide, cd_HashThing_init, pg_HashThing_init⟩
theorem nf_Desk_191 : NF "LibraryDesk" 191 34 10 := ⟨RX24, TX24, tyX24, by decide, clr_34, in_X24, tyX24_ok, q1547, q1548, q540, by decide +kernel⟩
theorem hdd_LinkedThing_init_ : yX23_init.cls ≠ "java/lang/invoke/MethodHandle" ∧ yX23_init.cls ≠ "java/lang/invoke/VarHandle" ∧ (parseMethodDescriptor yX23_init.desc).map (fun d => d.parameters.length) = some 0 := by decide +kernel
theorem mok_LinkedThing_init : MOK m_LinkedThing_init := ⟨by decide +kernel, by decide, cd_LinkedThing_init, pg_LinkedThing_init⟩
theorem nf_Desk_194 : NF "LibraryDesk" 194 35 8 := ⟨RX25, TX25, tyX25, by decide, clr_35, in_X25, tyX25_ok, q1583, q1584, q541, by decide +kernel⟩
theorem hdd_TreeThing_init_ : yX24_init.cls ≠ "java/lang/invoke/MethodHandle" ∧ yX24_init.cls ≠ "java/lang/invoke/VarHandle" ∧ (parseMethodDescriptor yX24_init.desc).map (fun d => d.parameters.length) = some 0 := by decide +kernel
theorem mok_TreeThing_init : MOK m_TreeThing_init := ⟨by decide +kernel, by decide, cd_TreeThing_init, pg_TreeThing_init⟩
theorem nf_Desk_197 : NF "LibraryDesk" 197 36 3 := ⟨RX26, TX26, tyX26, by decide, clr_36, in_X26, tyX26_ok, q1610, q1611, q542, by decide +kernel⟩
theorem hdd_HeapThing_init_ : yX25_init.cls ≠ "java/lang/invoke/MethodHandle" ∧ yX25_init.cls ≠ "java/lang/invoke/VarHandle" ∧ (parseMethodDescriptor yX25_init.desc).map (fun d => d.parameters.length) = some 0 := by decide +kernel
theorem mok_HeapThing_init : MOK m_HeapThing_init := ⟨by decide +kernel, by decide, cd_HeapThing_init, pg_HeapThing_init⟩
theorem nf_Desk_174 : NF "LibraryDesk" 174 37 4 := ⟨RX27, TX27, tyX27, by decide, clr_37, in_X27, tyX27_ok, q1622, q1623, q543, by decide +kernel⟩
theorem hdd_BitsThing_init_ : yX26_init.cls ≠ "java/lang/invoke/MethodHandle" ∧ yX26_init.cls ≠ "java/lang/invoke/VarHandle" ∧ (parseMethodDescriptor yX26_init.desc).map (fun d => d.parameters.length) = some 0 := by decide +kernel
theorem mok_BitsThing_init : MOK m_BitsThing_init := ⟨by decide +kernel, by decide, cd_BitsThing_init, pg_BitsThing_init⟩
theorem nf_Desk_201 : NF "LibraryDesk" 201 38 13 := ⟨RX28, TX28, tyX28, by decide, clr_38, in_X28, tyX28_ok, q1641, q1642, q544, by decide +kernel⟩
theorem hdd_TextThing_init_ : yX27_init.cls ≠ "java/lang/invoke/MethodHandle" ∧ yX27_init.cls ≠ "java/lang/invoke/VarHandle" ∧ (parseMethodDescriptor yX27_init.desc).map (fun d => d.parameters.length) = some 0 := by decide +kernel
theorem mok_TextThing_init : MOK m_TextThing_init := ⟨by decide +kernel, by decide, cd_TextThing_init, pg_TextThing_init⟩
theorem nf_Desk_204 : NF "LibraryDesk" 204 39 6 := ⟨RX29, TX29, tyX29, by decide, clr_39, in_X29, tyX29_ok, q1698, q1699, q545, by decide +kernel⟩
theorem hdd_PatternThing_init_ : yX28_init.cls ≠ "java/lang/invoke/MethodHandle" ∧ yX28_init.cls ≠ "java/lang/invoke/VarHandle" ∧ (parseMethodDescriptor yX28_init.desc).map (fun d => d.parameters.length) = some 0 := by decide +kernel
theorem mok_PatternThing_init : MOK m_PatternThing_init := ⟨by decide +kernel, by decide, cd_PatternThing_init, pg_PatternThing_init⟩
theorem nf_Desk_207 : NF "LibraryDesk" 207 40 6 := ⟨RX30, TX30, tyX30, by decide, clr_40, in_X30, tyX30_ok, q1719, q1720, q546, by decide +kernel⟩
theorem hdd_CursorThing_init_ : yX29_init.cls ≠ "java/lang/invoke/MethodHandle" ∧ yX29_init.cls ≠ "java/lang/invoke/VarHandle" ∧ (parseMethodDescriptor yX29_init.desc).map (fun d => d.parameters.length) = some 0 := by decide +kernel
theorem mok_CursorThing_init : MOK m_CursorThing_init := ⟨by decide +kernel, by decide, cd_CursorThing_init, pg_CursorThing_init⟩
theorem nf_Desk_210 : NF "LibraryDesk" 210 41 3 := ⟨RX31, TX31, tyX31, by decide, clr_41, in_X31, tyX31_ok, q1740, q1741, q547, by decide +kernel⟩
theorem hdd_ViewThing_init_ : yX30_init.cls ≠ "java/lang/invoke/MethodHandle" ∧ yX30_init.cls ≠ "java/lang/invoke/VarHandle" ∧ (parseMethodDescriptor yX30_init.desc).map (fun d => d.parameters.length) = some 0 := by decide +kernel
theorem mok_ViewThing_init : MOK m_ViewThing_init := ⟨by decide +kernel, by decide, cd_ViewThing_init, pg_ViewThing_init⟩
theorem nf_Desk_213 : NF "LibraryDesk" 213 42 4 := ⟨RX32, TX32, tyX32, by decide, clr_42, in_X32, tyX32_ok, q1755, q1756, q548, by decide +kernel⟩
theorem hdd_WholeThing_init_ : yX31_init.cls ≠ "java/lang/invoke/MethodHandle" ∧ yX31_init.cls ≠ "java/lang/invoke/VarHandle" ∧ (parseMethodDescriptor yX31_init.desc).map (fun d => d.parameters.length) = some 0 := by decide +kernel
theorem mok_WholeThing_init : MOK m_WholeThing_init := ⟨by decide +kernel, by decide, cd_WholeThing_init, pg_WholeThing_init⟩
theorem nf_Desk_216 : NF "LibraryDesk" 216 43 11 := ⟨RX33, TX33, tyX33, by decide, clr_43, in_X33, tyX33_ok, q1777, q1778, q549, by decide +kernel⟩
theorem hdd_DecimalThing_init_ : yX32_init.cls ≠ "java/lang/invoke/MethodHandle" ∧ yX32_init.cls ≠ "java/lang/invoke/VarHandle" ∧ (parseMethodDescriptor yX32_init.desc).map (fun d => d.parameters.length) = some 0 := by decide +kernel
theorem mok_DecimalThing_init : MOK m_DecimalThing_init := ⟨by decide +kernel, by decide, cd_DecimalThing_init, pg_DecimalThing_init⟩
theorem nf_Desk_219 : NF "LibraryDesk" 219 44 10 := ⟨RX34, TX34, tyX34, by decide, clr_44, in_X34, tyX34_ok, q1817, q1818, q550, by decide +kernel⟩
theorem hdd_SubThing_init_ : yX33_init.cls ≠ "java/lang/invoke/MethodHandle" ∧ yX33_init.cls ≠ "java/lang/invoke/VarHandle" ∧ (parseMethodDescriptor yX33_init.desc).map (fun d => d.parameters.length) = some 0 := by decide +kernel
theorem mok_SubThing_init : MOK m_SubThing_init := ⟨by decide +kernel, by decide, cd_SubThing_init, pg_SubThing_init⟩
theorem hdd_SyncThing_init_ : yX34_init.cls ≠ "java/lang/invoke/MethodHandle" ∧ yX34_init.cls ≠ "java/lang/invoke/VarHandle" ∧ (parseMethodDescriptor yX34_init.desc).map (fun d => d.parameters.length) = some 1 := by decide +kernel
theorem mok_SyncThing_init : MOK m_SyncThing_init := ⟨by decide +kernel, by decide, cd_SyncThing_init, pg_SyncThing_init⟩
theorem clr_28 : clT[clI 28]? = some (RX18, TX18, 4) := rfl
theorem hdd_Rows_begin_ : yX18_begin.cls ≠ "java/lang/invoke/MethodHandle" ∧ yX18_begin.cls ≠ "java/lang/invoke/VarHandle" ∧ (parseMethodDescriptor yX18_begin.desc).map (fun d => d.parameters.length) = some 1 := by decide +kernel
theorem mok_Rows_begin : MOK m_Rows_begin := ⟨by decide +kernel, by decide, cd_Rows_begin, pg_Rows_begin⟩
theorem gf_Desk_236_27 : GF "LibraryDesk" "LibraryDesk$ListThing" "LibraryDesk" 236 2 274 27 := ⟨RX17, TX17, 3, 2, by decide, clr_27, in_X17, by decide, rfl, Or.inr nw1401, rfl⟩
theorem kf1_ListThing_27 : KF1 "LibraryDesk$ListThing" 27 := ⟨by decide, RX17, TX17, 3, clr_27, Or.inr rfl⟩
theorem kf1_RingThing_29 : KF1 "LibraryDesk$RingThing" 29 := ⟨by decide, RX19, TX19, 6, clr_29, Or.inr rfl⟩
theorem kf1_HashThing_31 : KF1 "LibraryDesk$HashThing" 31 := ⟨by decide, RX21, TX21, 11, clr_31, Or.inr rfl⟩
theorem hdd_RingThing_begin_ : yX19_begin.cls ≠ "java/lang/invoke/MethodHandle" ∧ yX19_begin.cls ≠ "java/lang/invoke/VarHandle" ∧ (parseMethodDescriptor yX19_begin.desc).map (fun d => d.parameters.length) = some 1 := by decide +kernel
theorem mok_RingThing_begin : MOK m_RingThing_begin := ⟨by decide +kernel, by decide, cd_RingThing_begin, pg_RingThing_begin⟩
theorem hdd_HashThing_begin_ : yX21_begin.cls ≠ "java/lang/invoke/MethodHandle" ∧ yX21_begin.cls ≠ "java/lang/invoke/VarHandle" ∧ (parseMethodDescriptor yX21_begin.desc).map (fun d => d.parameters.length) = some 2 := by decide +kernel
theorem mok_HashThing_begin : MOK m_HashThing_begin := ⟨by decide +kernel, by decide, cd_HashThing_begin, pg_HashThing_begin⟩
theorem kf1_LinkedThing_33 : KF1 "LibraryDesk$LinkedThing" 33 := ⟨by decide, RX23, TX23, 11, clr_33, Or.inr rfl⟩
theorem hdd_LinkedThing_begin_ : yX23_begin.cls ≠ "java/lang/invoke/MethodHandle" ∧ yX23_begin.cls ≠ "java/lang/invoke/VarHandle" ∧ (parseMethodDescriptor yX23_begin.desc).map (fun d => d.parameters.length) = some 2 := by decide +kernel
theorem mok_LinkedThing_begin : MOK m_LinkedThing_begin := ⟨by decide +kernel, by decide, cd_LinkedThing_begin, pg_LinkedThing_begin⟩
theorem hdd_TreeThing_begin_ : yX24_begin.cls ≠ "java/lang/invoke/MethodHandle" ∧ yX24_begin.cls ≠ "java/lang/invoke/VarHandle" ∧ (parseMethodDescriptor yX24_begin.desc).map (fun d => d.parameters.length) = some 1 := by decide +kernel
theorem mok_TreeThing_begin : MOK m_TreeThing_begin := ⟨by decide +kernel, by decide, cd_TreeThing_begin, pg_TreeThing_begin⟩
theorem kf1_TreeThing_34 : KF1 "LibraryDesk$TreeThing" 34 := ⟨by decide, RX24, TX24, 10, clr_34, Or.inr rfl⟩
theorem kf1_HeapThing_35 : KF1 "LibraryDesk$HeapThing" 35 := ⟨by decide, RX25, TX25, 8, clr_35, Or.inr rfl⟩
theorem hdd_HeapThing_begin_ : yX25_begin.cls ≠ "java/lang/invoke/MethodHandle" ∧ yX25_begin.cls ≠ "java/lang/invoke/VarHandle" ∧ (parseMethodDescriptor yX25_begin.desc).map (fun d => d.parameters.length) = some 2 := by decide +kernel
theorem mok_HeapThing_begin : MOK m_HeapThing_begin := ⟨by decide +kernel, by decide, cd_HeapThing_begin, pg_HeapThing_begin⟩
theorem hdd_BitsThing_begin_ : yX26_begin.cls ≠ "java/lang/invoke/MethodHandle" ∧ yX26_begin.cls ≠ "java/lang/invoke/VarHandle" ∧ (parseMethodDescriptor yX26_begin.desc).map (fun d => d.parameters.length) = some 0 := by decide +kernel
theorem mok_BitsThing_begin : MOK m_BitsThing_begin := ⟨by decide +kernel, by decide, cd_BitsThing_begin, pg_BitsThing_begin⟩
theorem kf1_BitsThing_36 : KF1 "LibraryDesk$BitsThing" 36 := ⟨by decide, RX26, TX26, 3, clr_36, Or.inr rfl⟩
theorem kf1_WholeThing_41 : KF1 "LibraryDesk$WholeThing" 41 := ⟨by decide, RX31, TX31, 3, clr_41, Or.inr rfl⟩
theorem hdd_TextThing_begin_ : yX27_begin.cls ≠ "java/lang/invoke/MethodHandle" ∧ yX27_begin.cls ≠ "java/lang/invoke/VarHandle" ∧ (parseMethodDescriptor yX27_begin.desc).map (fun d => d.parameters.length) = some 0 := by decide +kernel
theorem mok_TextThing_begin : MOK m_TextThing_begin := ⟨by decide +kernel, by decide, cd_TextThing_begin, pg_TextThing_begin⟩
theorem kf1_TextThing_37 : KF1 "LibraryDesk$TextThing" 37 := ⟨by decide, RX27, TX27, 4, clr_37, Or.inr rfl⟩
theorem clr_18 : clT[clI 18]? = some (RX8, TX8, 3) := rfl
theorem hdd_Big_zero_ : yX8_zero.cls ≠ "java/lang/invoke/MethodHandle" ∧ yX8_zero.cls ≠ "java/lang/invoke/VarHandle" ∧ (parseMethodDescriptor yX8_zero.desc).map (fun d => d.parameters.length) = some 0 := by decide +kernel
theorem mok_Big_zero : MOK m_Big_zero := ⟨by decide +kernel, by decide, cd_Big_zero, pg_Big_zero⟩
theorem gf_Desk_257_41 : GF "LibraryDesk" "LibraryDesk$WholeThing" "LibraryDesk" 257 2 343 41 := ⟨RX31, TX31, 3, 2, by decide, clr_41, in_X31, by decide, rfl, Or.inr nw1749, rfl⟩
theorem kf1_DecimalThing_42 : KF1 "LibraryDesk$DecimalThing" 42 := ⟨by decide, RX32, TX32, 4, clr_42, Or.inr rfl⟩
theorem gf_Desk_266_42 : GF "LibraryDesk" "LibraryDesk$DecimalThing" "LibraryDesk" 266 2 344 42 := ⟨RX32, TX32, 4, 2, by decide, clr_42, in_X32, by decide, rfl, Or.inr nw1766, rfl⟩
theorem nd_42 : va_nd ((flT 42).map (·.2)) = true := by decide +kernel
theorem pf_Desk_267_42 {m : Nat} : PF m "LibraryDesk" "LibraryDesk$DecimalThing" "LibraryDesk" 267 0 345 .int 42 := ⟨RX32, TX32, 4, 3, tyX32, by decide, clr_42, in_X32, tyX32_ok, nmX32, by decide, rfl, nd_42, Or.inr (Or.inl ⟨nw1769, rfl⟩), rfl, by decide +kernel⟩
theorem hdd_SyncThing_begin_ : yX34_begin.cls ≠ "java/lang/invoke/MethodHandle" ∧ yX34_begin.cls ≠ "java/lang/invoke/VarHandle" ∧ (parseMethodDescriptor yX34_begin.desc).map (fun d => d.parameters.length) = some 2 := by decide +kernel
theorem mok_SyncThing_begin : MOK m_SyncThing_begin := ⟨by decide +kernel, by decide, cd_SyncThing_begin, pg_SyncThing_begin⟩
theorem kf1_SyncThing_44 : KF1 "LibraryDesk$SyncThing" 44 := ⟨by decide, RX34, TX34, 10, clr_44, Or.inr rfl⟩
theorem nd_44 : va_nd ((flT 44).map (·.2)) = true := by decide +kernel
theorem pf_Desk_226_44 {m : Nat} : PF m "LibraryDesk" "LibraryDesk$Thing" "LibraryDesk" 226 0 273 .boolean 44 := ⟨RX34, TX34, 10, 1, tyX34, by decide, clr_44, in_X34, tyX34_ok, nmX34, by decide, rfl, nd_44, Or.inr (Or.inl ⟨nw1403, rfl⟩), rfl, by decide +kernel⟩
theorem nd_43 : va_nd ((flT 43).map (·.2)) = true := by decide +kernel
theorem pf_Desk_226_43 {m : Nat} : PF m "LibraryDesk" "LibraryDesk$Thing" "LibraryDesk" 226 0 273 .boolean 43 := ⟨RX33, TX33, 11, 1, tyX33, by decide, clr_43, in_X33, tyX33_ok, nmX33, by decide, rfl, nd_43, Or.inr (Or.inl ⟨nw1403, rfl⟩), rfl, by decide +kernel⟩
theorem pf_Desk_226_42 {m : Nat} : PF m "LibraryDesk" "LibraryDesk$Thing" "LibraryDesk" 226 0 273 .boolean 42 := ⟨RX32, TX32, 4, 1, tyX32, by decide, clr_42, in_X32, tyX32_ok, nmX32, by decide, rfl, nd_42, Or.inr (Or.inl ⟨nw1403, rfl⟩), rfl, by decide +kernel⟩
theorem nd_41 : va_nd ((flT 41).map (·.2)) = true := by decide +kernel
theorem pf_Desk_226_41 {m : Nat} : PF m "LibraryDesk" "LibraryDesk$Thing" "LibraryDesk" 226 0 273 .boolean 41 := ⟨RX31, TX31, 3, 1, tyX31, by decide, clr_41, in_X31, tyX31_ok, nmX31, by decide, rfl, nd_41, Or.inr (Or.inl ⟨nw1403, rfl⟩), rfl, by decide +kernel⟩
theorem nd_40 : va_nd ((flT 40).map (·.2)) = true := by decide +kernel
theorem pf_Desk_226_40 {m : Nat} : PF m "LibraryDesk" "LibraryDesk$Thing" "LibraryDesk" 226 0 273 .boolean 40 := ⟨RX30, TX30, 6, 1, tyX30, by decide, clr_40, in_X30, tyX30_ok, nmX30, by decide, rfl, nd_40, Or.inr (Or.inl ⟨nw1403, rfl⟩), rfl, by decide +kernel⟩
theorem nd_39 : va_nd ((flT 39).map (·.2)) = true := by decide +kernel
theorem pf_Desk_226_39 {m : Nat} : PF m "LibraryDesk" "LibraryDesk$Thing" "LibraryDesk" 226 0 273 .boolean 39 := ⟨RX29, TX29, 6, 1, tyX29, by decide, clr_39, in_X29, tyX29_ok, nmX29, by decide, rfl, nd_39, Or.inr (Or.inl ⟨nw1403, rfl⟩), rfl, by decide +kernel⟩
theorem nd_38 : va_nd ((flT 38).map (·.2)) = true := by decide +kernel
theorem pf_Desk_226_38 {m : Nat} : PF m "LibraryDesk" "LibraryDesk$Thing" "LibraryDesk" 226 0 273 .boolean 38 := ⟨RX28, TX28, 13, 1, tyX28, by decide, clr_38, in_X28, tyX28_ok, nmX28, by decide, rfl, nd_38, Or.inr (Or.inl ⟨nw1403, rfl⟩), rfl, by decide +kernel⟩
theorem nd_37 : va_nd ((flT 37).map (·.2)) = true := by decide +kernel
theorem pf_Desk_226_37 {m : Nat} : PF m "LibraryDesk" "LibraryDesk$Thing" "LibraryDesk" 226 0 273 .boolean 37 := ⟨RX27, TX27, 4, 1, tyX27, by decide, clr_37, in_X27, tyX27_ok, nmX27, by decide, rfl, nd_37, Or.inr (Or.inl ⟨nw1403, rfl⟩), rfl, by decide +kernel⟩
theorem nd_36 : va_nd ((flT 36).map (·.2)) = true := by decide +kernel
theorem pf_Desk_226_36 {m : Nat} : PF m "LibraryDesk" "LibraryDesk$Thing" "LibraryDesk" 226 0 273 .boolean 36 := ⟨RX26, TX26, 3, 1, tyX26, by decide, clr_36, in_X26, tyX26_ok, nmX26, by decide, rfl, nd_36, Or.inr (Or.inl ⟨nw1403, rfl⟩), rfl, by decide +kernel⟩
theorem nd_35 : va_nd ((flT 35).map (·.2)) = true := by decide +kernel
theorem pf_Desk_226_35 {m : Nat} : PF m "LibraryDesk" "LibraryDesk$Thing" "LibraryDesk" 226 0 273 .boolean 35 := ⟨RX25, TX25, 8, 1, tyX25, by decide, clr_35, in_X25, tyX25_ok, nmX25, by decide, rfl, nd_35, Or.inr (Or.inl ⟨nw1403, rfl⟩), rfl, by decide +kernel⟩
theorem nd_34 : va_nd ((flT 34).map (·.2)) = true := by decide +kernel
theorem pf_Desk_226_34 {m : Nat} : PF m "LibraryDesk" "LibraryDesk$Thing" "LibraryDesk" 226 0 273 .boolean 34 := ⟨RX24, TX24, 10, 1, tyX24, by decide, clr_34, in_X24, tyX24_ok, nmX24, by decide, rfl, nd_34, Or.inr (Or.inl ⟨nw1403, rfl⟩), rfl, by decide +kernel⟩
theorem nd_33 : va_nd ((flT 33).map (·.2)) = true := by decide +kernel
theorem pf_Desk_226_33 {m : Nat} : PF m "LibraryDesk" "LibraryDesk$Thing" "LibraryDesk" 226 0 273 .boolean 33 := ⟨RX23, TX23, 11, 1, tyX23, by decide, clr_33, in_X23, tyX23_ok, nmX23, by decide, rfl, nd_33, Or.inr (Or.inl ⟨nw1403, rfl⟩), rfl, by decide +kernel⟩
theorem nd_31 : va_nd ((flT 31).map (·.2)) = true := by decide +kernel
theorem pf_Desk_226_31 {m : Nat} : PF m "LibraryDesk" "LibraryDesk$Thing" "LibraryDesk" 226 0 273 .boolean 31 := ⟨RX21, TX21, 11, 1, tyX21, by decide, clr_31, in_X21, tyX21_ok, nmX21, by decide, rfl, nd_31, Or.inr (Or.inl ⟨nw1403, rfl⟩), rfl, by decide +kernel⟩
theorem nd_29 : va_nd ((flT 29).map (·.2)) = true := by decide +kernel
theorem pf_Desk_226_29 {m : Nat} : PF m "LibraryDesk" "LibraryDesk$Thing" "LibraryDesk" 226 0 273 .boolean 29 := ⟨RX19, TX19, 6, 1, tyX19, by decide, clr_29, in_X19, tyX19_ok, nmX19, by decide, rfl, nd_29, Or.inr (Or.inl ⟨nw1403, rfl⟩), rfl, by decide +kernel⟩
theorem nd_27 : va_nd ((flT 27).map (·.2)) = true := by decide +kernel
theorem pf_Desk_226_27 {m : Nat} : PF m "LibraryDesk" "LibraryDesk$Thing" "LibraryDesk" 226 0 273 .boolean 27 := ⟨RX17, TX17, 3, 1, tyX17, by decide, clr_27, in_X17, tyX17_ok, nmX17, by decide, rfl, nd_27, Or.inr (Or.inl ⟨nw1403, rfl⟩), rfl, by decide +kernel⟩
theorem gf_Desk_55_11 : GF "LibraryDesk" "LibraryDesk" "LibraryDesk" 55 2 8 11 := ⟨RX1, TX1, 21, 7, by decide, clr_11, in_X1, by decide, rfl, Or.inl q1073, rfl⟩
theorem hdd_Desk_thing_ : yX1_thing.cls ≠ "java/lang/invoke/MethodHandle" ∧ yX1_thing.cls ≠ "java/lang/invoke/VarHandle" ∧ (parseMethodDescriptor yX1_thing.desc).map (fun d => d.parameters.length) = some 1 := by decide +kernel
theorem mok_Desk_thing : MOK m_Desk_thing := ⟨by decide +kernel, by decide, cd_Desk_thing, pg_Desk_thing⟩
theorem iof_SyncThing_44 : 7 < 44 ∧ ∃ (C : String) (T : u_T) (N : Nat), clT[clI 44]? = some (C, T, N) ∧ (inC [44] 44 = true → Cond.castable C "LibraryDesk$SyncThing" ∈ nwT ∨ C = "LibraryDesk$SyncThing") ∧ (¬ inC [44] 44 = true → (C, "LibraryDesk$SyncThing") ∈ ncT) := ⟨by decide, RX34, TX34, 10, clr_44, fun _ => Or.inr rfl, fun h => absurd (by decide) h⟩
theorem ncr_248 : ("LibraryDesk$SubThing", "LibraryDesk$SyncThing") ∈ ncT := List.mem_of_getElem? (i := 248) rfl
theorem iof_SyncThing_43 : 7 < 43 ∧ ∃ (C : String) (T : u_T) (N : Nat), clT[clI 43]? = some (C, T, N) ∧ (inC [44] 43 = true → Cond.castable C "LibraryDesk$SyncThing" ∈ nwT ∨ C = "LibraryDesk$SyncThing") ∧ (¬ inC [44] 43 = true → (C, "LibraryDesk$SyncThing") ∈ ncT) := ⟨by decide, RX33, TX33, 11, clr_43, fun h => absurd h (by decide), fun _ => ncr_248⟩
theorem ncr_247 : ("LibraryDesk$DecimalThing", "LibraryDesk$SyncThing") ∈ ncT := List.mem_of_getElem? (i := 247) rfl
theorem iof_SyncThing_42 : 7 < 42 ∧ ∃ (C : String) (T : u_T) (N : Nat), clT[clI 42]? = some (C, T, N) ∧ (inC [44] 42 = true → Cond.castable C "LibraryDesk$SyncThing" ∈ nwT ∨ C = "LibraryDesk$SyncThing") ∧ (¬ inC [44] 42 = true → (C, "LibraryDesk$SyncThing") ∈ ncT) := ⟨by decide, RX32, TX32, 4, clr_42, fun h => absurd h (by decide), fun _ => ncr_247⟩
theorem ncr_246 : ("LibraryDesk$WholeThing", "LibraryDesk$SyncThing") ∈ ncT := List.mem_of_getElem? (i := 246) rfl
theorem iof_SyncThing_41 : 7 < 41 ∧ ∃ (C : String) (T : u_T) (N : Nat), clT[clI 41]? = some (C, T, N) ∧ (inC [44] 41 = true → Cond.castable C "LibraryDesk$SyncThing" ∈ nwT ∨ C = "LibraryDesk$SyncThing") ∧ (¬ inC [44] 41 = true → (C, "LibraryDesk$SyncThing") ∈ ncT) := ⟨by decide, RX31, TX31, 3, clr_41, fun h => absurd h (by decide), fun _ => ncr_246⟩
theorem ncr_245 : ("LibraryDesk$ViewThing", "LibraryDesk$SyncThing") ∈ ncT := List.mem_of_getElem? (i := 245) rfl
theorem iof_SyncThing_40 : 7 < 40 ∧ ∃ (C : String) (T : u_T) (N : Nat), clT[clI 40]? = some (C, T, N) ∧ (inC [44] 40 = true → Cond.castable C "LibraryDesk$SyncThing" ∈ nwT ∨ C = "LibraryDesk$SyncThing") ∧ (¬ inC [44] 40 = true → (C, "LibraryDesk$SyncThing") ∈ ncT) := ⟨by decide, RX30, TX30, 6, clr_40, fun h => absurd h (by decide), fun _ => ncr_245⟩
theorem ncr_244 : ("LibraryDesk$CursorThing", "LibraryDesk$SyncThing") ∈ ncT := List.mem_of_getElem? (i := 244) rfl
theorem iof_SyncThing_39 : 7 < 39 ∧ ∃ (C : String) (T : u_T) (N : Nat), clT[clI 39]? = some (C, T, N) ∧ (inC [44] 39 = true → Cond.castable C "LibraryDesk$SyncThing" ∈ nwT ∨ C = "LibraryDesk$SyncThing") ∧ (¬ inC [44] 39 = true → (C, "LibraryDesk$SyncThing") ∈ ncT) := ⟨by decide, RX29, TX29, 6, clr_39, fun h => absurd h (by decide), fun _ => ncr_244⟩
theorem ncr_243 : ("LibraryDesk$PatternThing", "LibraryDesk$SyncThing") ∈ ncT := List.mem_of_getElem? (i := 243) rfl
theorem iof_SyncThing_38 : 7 < 38 ∧ ∃ (C : String) (T : u_T) (N : Nat), clT[clI 38]? = some (C, T, N) ∧ (inC [44] 38 = true → Cond.castable C "LibraryDesk$SyncThing" ∈ nwT ∨ C = "LibraryDesk$SyncThing") ∧ (¬ inC [44] 38 = true → (C, "LibraryDesk$SyncThing") ∈ ncT) := ⟨by decide, RX28, TX28, 13, clr_38, fun h => absurd h (by decide), fun _ => ncr_243⟩
theorem ncr_242 : ("LibraryDesk$TextThing", "LibraryDesk$SyncThing") ∈ ncT := List.mem_of_getElem? (i := 242) rfl
theorem iof_SyncThing_37 : 7 < 37 ∧ ∃ (C : String) (T : u_T) (N : Nat), clT[clI 37]? = some (C, T, N) ∧ (inC [44] 37 = true → Cond.castable C "LibraryDesk$SyncThing" ∈ nwT ∨ C = "LibraryDesk$SyncThing") ∧ (¬ inC [44] 37 = true → (C, "LibraryDesk$SyncThing") ∈ ncT) := ⟨by decide, RX27, TX27, 4, clr_37, fun h => absurd h (by decide), fun _ => ncr_242⟩
theorem ncr_241 : ("LibraryDesk$BitsThing", "LibraryDesk$SyncThing") ∈ ncT := List.mem_of_getElem? (i := 241) rfl
theorem iof_SyncThing_36 : 7 < 36 ∧ ∃ (C : String) (T : u_T) (N : Nat), clT[clI 36]? = some (C, T, N) ∧ (inC [44] 36 = true → Cond.castable C "LibraryDesk$SyncThing" ∈ nwT ∨ C = "LibraryDesk$SyncThing") ∧ (¬ inC [44] 36 = true → (C, "LibraryDesk$SyncThing") ∈ ncT) := ⟨by decide, RX26, TX26, 3, clr_36, fun h => absurd h (by decide), fun _ => ncr_241⟩
theorem ncr_240 : ("LibraryDesk$HeapThing", "LibraryDesk$SyncThing") ∈ ncT := List.mem_of_getElem? (i := 240) rfl
theorem iof_SyncThing_35 : 7 < 35 ∧ ∃ (C : String) (T : u_T) (N : Nat), clT[clI 35]? = some (C, T, N) ∧ (inC [44] 35 = true → Cond.castable C "LibraryDesk$SyncThing" ∈ nwT ∨ C = "LibraryDesk$SyncThing") ∧ (¬ inC [44] 35 = true → (C, "LibraryDesk$SyncThing") ∈ ncT) := ⟨by decide, RX25, TX25, 8, clr_35, fun h => absurd h (by decide), fun _ => ncr_240⟩
theorem ncr_239 : ("LibraryDesk$TreeThing", "LibraryDesk$SyncThing") ∈ ncT := List.mem_of_getElem? (i := 239) rfl
theorem iof_SyncThing_34 : 7 < 34 ∧ ∃ (C : String) (T : u_T) (N : Nat), clT[clI 34]? = some (C, T, N) ∧ (inC [44] 34 = true → Cond.castable C "LibraryDesk$SyncThing" ∈ nwT ∨ C = "LibraryDesk$SyncThing") ∧ (¬ inC [44] 34 = true → (C, "LibraryDesk$SyncThing") ∈ ncT) := ⟨by decide, RX24, TX24, 10, clr_34, fun h => absurd h (by decide), fun _ => ncr_239⟩
theorem ncr_238 : ("LibraryDesk$LinkedThing", "LibraryDesk$SyncThing") ∈ ncT := List.mem_of_getElem? (i := 238) rfl
theorem iof_SyncThing_33 : 7 < 33 ∧ ∃ (C : String) (T : u_T) (N : Nat), clT[clI 33]? = some (C, T, N) ∧ (inC [44] 33 = true → Cond.castable C "LibraryDesk$SyncThing" ∈ nwT ∨ C = "LibraryDesk$SyncThing") ∧ (¬ inC [44] 33 = true → (C, "LibraryDesk$SyncThing") ∈ ncT) := ⟨by decide, RX23, TX23, 11, clr_33, fun h => absurd h (by decide), fun _ => ncr_238⟩
theorem ncr_236 : ("LibraryDesk$HashThing", "LibraryDesk$SyncThing") ∈ ncT := List.mem_of_getElem? (i := 236) rfl
theorem iof_SyncThing_31 : 7 < 31 ∧ ∃ (C : String) (T : u_T) (N : Nat), clT[clI 31]? = some (C, T, N) ∧ (inC [44] 31 = true → Cond.castable C "LibraryDesk$SyncThing" ∈ nwT ∨ C = "LibraryDesk$SyncThing") ∧ (¬ inC [44] 31 = true → (C, "LibraryDesk$SyncThing") ∈ ncT) := ⟨by decide, RX21, TX21, 11, clr_31, fun h => absurd h (by decide), fun _ => ncr_236⟩
theorem ncr_235 : ("LibraryDesk$RingThing", "LibraryDesk$SyncThing") ∈ ncT := List.mem_of_getElem? (i := 235) rfl
theorem iof_SyncThing_29 : 7 < 29 ∧ ∃ (C : String) (T : u_T) (N : Nat), clT[clI 29]? = some (C, T, N) ∧ (inC [44] 29 = true → Cond.castable C "LibraryDesk$SyncThing" ∈ nwT ∨ C = "LibraryDesk$SyncThing") ∧ (¬ inC [44] 29 = true → (C, "LibraryDesk$SyncThing") ∈ ncT) := ⟨by decide, RX19, TX19, 6, clr_29, fun h => absurd h (by decide), fun _ => ncr_235⟩
theorem ncr_233 : ("LibraryDesk$ListThing", "LibraryDesk$SyncThing") ∈ ncT := List.mem_of_getElem? (i := 233) rfl
theorem iof_SyncThing_27 : 7 < 27 ∧ ∃ (C : String) (T : u_T) (N : Nat), clT[clI 27]? = some (C, T, N) ∧ (inC [44] 27 = true → Cond.castable C "LibraryDesk$SyncThing" ∈ nwT ∨ C = "LibraryDesk$SyncThing") ∧ (¬ inC [44] 27 = true → (C, "LibraryDesk$SyncThing") ∈ ncT) := ⟨by decide, RX17, TX17, 3, clr_27, fun h => absurd h (by decide), fun _ => ncr_233⟩
theorem clr_45 : clT[clI 45]? = some (RX35, TX35, 2) := rfl
theorem gf_Desk_296_45 : GF "LibraryDesk" "LibraryDesk$Row" "LibraryDesk" 296 0 364 45 := ⟨RX35, TX35, 2, 1, by decide, clr_45, in_X35, by decide, rfl, Or.inr nw1833, rfl⟩
theorem gf_Desk_292_44 : GF "LibraryDesk" "LibraryDesk$SyncThing" "LibraryDesk" 292 2 359 44 := ⟨RX34, TX34, 10, 6, by decide, clr_44, in_X34, by decide, rfl, Or.inr nw1849, rfl⟩
theorem gf_Desk_301_44 : GF "LibraryDesk" "LibraryDesk$SyncThing" "LibraryDesk" 301 2 360 44 := ⟨RX34, TX34, 10, 7, by decide, clr_44, in_X34, by decide, rfl, Or.inr nw1852, rfl⟩
theorem hdd_Desk_release_ : yX1_release.cls ≠ "java/lang/invoke/MethodHandle" ∧ yX1_release.cls ≠ "java/lang/invoke/VarHandle" ∧ (parseMethodDescriptor yX1_release.desc).map (fun d => d.parameters.length) = some 1 := by decide +kernel
theorem mok_Desk_release : MOK m_Desk_release := ⟨by decide +kernel, by decide, cd_Desk_release, pg_Desk_release⟩
theorem hdd_Desk_there_ : yX1_there.cls ≠ "java/lang/invoke/MethodHandle" ∧ yX1_there.cls ≠ "java/lang/invoke/VarHandle" ∧ (parseMethodDescriptor yX1_there.desc).map (fun d => d.parameters.length) = some 1 := by decide +kernel
theorem mok_Desk_there : MOK m_Desk_there := ⟨by decide +kernel, by decide, cd_Desk_there, pg_Desk_there⟩
theorem ef_Desk_7 : EXF "LibraryDesk" "java/util/NoSuchElementException" ["java/lang/RuntimeException", "java/lang/Exception"] 7 9 64 := ⟨by decide, rfl, ⟨TEx, rfl⟩, by decide, by decide +kernel, by decide +kernel, q1948, q552, List.forall_mem_append.mpr ⟨List.forall_mem_append.mpr ⟨thr_A, List.forall_mem_cons.mpr ⟨fun _ => Or.inl q1958, List.forall_mem_cons.mpr ⟨fun _ => Or.inl q1959, List.forall_mem_cons.mpr ⟨fun _ => Or.inl q1960, List.forall_mem_cons.mpr ⟨fun _ => Or.inl q1261, List.forall_mem_cons.mpr ⟨fun _ => Or.inr ⟨nw1220, rfl⟩, List.forall_mem_cons.mpr ⟨fun _ => Or.inl q1261, List.forall_mem_cons.mpr ⟨fun _ => Or.inl q1262, List.forall_mem_cons.mpr ⟨fun _ => Or.inl q1263, List.forall_mem_cons.mpr ⟨fun _ => Or.inl q1264, List.forall_mem_cons.mpr ⟨fun _ => Or.inr ⟨nw1222, rfl⟩, List.forall_mem_cons.mpr ⟨fun _ => Or.inl q1264, List.forall_mem_cons.mpr ⟨fun _ => Or.inl q1265, List.forall_mem_cons.mpr ⟨fun _ => Or.inl q1266, List.forall_mem_cons.mpr ⟨fun _ => Or.inl q1234, List.forall_mem_cons.mpr ⟨fun _ => Or.inr ⟨nw1224, rfl⟩, fun _ h => absurd h List.not_mem_nil⟩⟩⟩⟩⟩⟩⟩⟩⟩⟩⟩⟩⟩⟩⟩⟩, List.forall_mem_cons.mpr ⟨fun _ => Or.inl q1957, List.forall_mem_cons.mpr ⟨fun _ => Or.inl q1949, List.forall_mem_cons.mpr ⟨fun _ => Or.inr ⟨nw1950, rfl⟩, List.forall_mem_cons.mpr ⟨fun _ => Or.inl q1951, List.forall_mem_cons.mpr ⟨fun _ => Or.inl q1192, List.forall_mem_cons.mpr ⟨fun _ => Or.inl q1952, List.forall_mem_cons.mpr ⟨fun _ => Or.inl q1953, List.forall_mem_cons.mpr ⟨fun _ => Or.inl q1954, List.forall_mem_cons.mpr ⟨fun _ => Or.inl q1955, List.forall_mem_cons.mpr ⟨fun h => absurd h (by decide), List.forall_mem_cons.mpr ⟨fun h => absurd h (by decide), List.forall_mem_cons.mpr ⟨fun _ => Or.inl q1232, List.forall_mem_cons.mpr ⟨fun _ => Or.inl q1231, List.forall_mem_cons.mpr ⟨fun _ => Or.inl q1956, fun _ h => absurd h List.not_mem_nil⟩⟩⟩⟩⟩⟩⟩⟩⟩⟩⟩⟩⟩⟩⟩⟩
theorem hdd_ListWork_asksOther_ : yX3_asksOther.cls ≠ "java/lang/invoke/MethodHandle" ∧ yX3_asksOther.cls ≠ "java/lang/invoke/VarHandle" ∧ (parseMethodDescriptor yX3_asksOther.desc).map (fun d => d.parameters.length) = some 1 := by decide +kernel
theorem mok_ListWork_asksOther : MOK m_ListWork_asksOther := ⟨by decide +kernel, by decide, cd_ListWork_asksOther, pg_ListWork_asksOther⟩
theorem hdd_Desk_both_ : yX1_both.cls ≠ "java/lang/invoke/MethodHandle" ∧ yX1_both.cls ≠ "java/lang/invoke/VarHandle" ∧ (parseMethodDescriptor yX1_both.desc).map (fun d => d.parameters.length) = some 2 := by decide +kernel
theorem mok_Desk_both : MOK m_Desk_both := ⟨by decide +kernel, by decide, cd_Desk_both, pg_Desk_both⟩
theorem hdd_Desk_places_ : yX1_places.cls ≠ "java/lang/invoke/MethodHandle" ∧ yX1_places.cls ≠ "java/lang/invoke/VarHandle" ∧ (parseMethodDescriptor yX1_places.desc).map (fun d => d.parameters.length) = some 1 := by decide +kernel
theorem mok_Desk_places : MOK m_Desk_places := ⟨by decide +kernel, by decide, cd_Desk_places, pg_Desk_places⟩
theorem hdx_LibraryDesk_Places_check___V_0 : ("LibraryDesk$Places" : String) ≠ "java/lang/invoke/MethodHandle" ∧ ("LibraryDesk$Places" : String) ≠ "java/lang/invoke/VarHandle" ∧ (parseMethodDescriptor "()V").map (fun d => d.parameters.length) = some 0 := by decide +kernel
theorem mok_ViewThing_check : MOK m_ViewThing_check := ⟨by decide +kernel, by decide, cd_ViewThing_check, pg_ViewThing_check⟩
theorem mok_ListThing_check : MOK m_ListThing_check := ⟨by decide +kernel, by decide, cd_ListThing_check, pg_ListThing_check⟩
theorem gf_Desk_65_11 : GF "LibraryDesk" "LibraryDesk" "LibraryDesk" 65 2 11 11 := ⟨RX1, TX1, 21, 10, by decide, clr_11, in_X1, by decide, rfl, Or.inl q1076, rfl⟩
theorem hdd_ListWork_call_ : yX3_call.cls ≠ "java/lang/invoke/MethodHandle" ∧ yX3_call.cls ≠ "java/lang/invoke/VarHandle" ∧ (parseMethodDescriptor yX3_call.desc).map (fun d => d.parameters.length) = some 4 := by decide +kernel
theorem mok_ListWork_call : MOK m_ListWork_call := ⟨by decide +kernel, by decide, cd_ListWork_call, pg_ListWork_call⟩
theorem hdd_ListWork_addAll_ : yX3_addAll.cls ≠ "java/lang/invoke/MethodHandle" ∧ yX3_addAll.cls ≠ "java/lang/invoke/VarHandle" ∧ (parseMethodDescriptor yX3_addAll.desc).map (fun d => d.parameters.length) = some 3 := by decide +kernel
theorem mok_ListWork_addAll : MOK m_ListWork_addAll := ⟨by decide +kernel, by decide, cd_ListWork_addAll, pg_ListWork_addAll⟩
theorem hdd_ListWork_same_ : yX3_same.cls ≠ "java/lang/invoke/MethodHandle" ∧ yX3_same.cls ≠ "java/lang/invoke/VarHandle" ∧ (parseMethodDescriptor yX3_same.desc).map (fun d => d.parameters.length) = some 2 := by decide +kernel
theorem mok_ListWork_same : MOK m_ListWork_same := ⟨by decide +kernel, by decide, cd_ListWork_same, pg_ListWork_same⟩
theorem hdd_ListWork_removeAll_ : yX3_removeAll.cls ≠ "java/lang/invoke/MethodHandle" ∧ yX3_removeAll.cls ≠ "java/lang/invoke/VarHandle" ∧ (parseMethodDescriptor yX3_removeAll.desc).map (fun d => d.parameters.length) = some 3 := by decide +kernel
theorem mok_ListWork_removeAll : MOK m_ListWork_removeAll := ⟨by decide +kernel, by decide, cd_ListWork_removeAll, pg_ListWork_removeAll⟩
theorem kf1_Places_40 : KF1 "LibraryDesk$Places" 40 := ⟨by decide, RX30, TX30, 6, clr_40, Or.inl nw6102⟩
theorem kf1_Places_27 : KF1 "LibraryDesk$Places" 27 := ⟨by decide, RX17, TX17, 3, clr_27, Or.inl nw6101⟩
theorem hdd_Desk_fits_ : yX1_fits.cls ≠ "java/lang/invoke/MethodHandle" ∧ yX1_fits.cls ≠ "java/lang/invoke/VarHandle" ∧ (parseMethodDescriptor yX1_fits.desc).map (fun d => d.parameters.length) = some 1 := by decide +kernel
theorem mok_Desk_fits : MOK m_Desk_fits := ⟨by decide +kernel, by decide, cd_Desk_fits, pg_Desk_fits⟩
theorem ncr_376 : ("LibraryDesk$SyncThing", "LibraryDesk$Places") ∈ ncT := List.mem_of_getElem? (i := 376) rfl
theorem iof_Places_44 : 7 < 44 ∧ ∃ (C : String) (T : u_T) (N : Nat), clT[clI 44]? = some (C, T, N) ∧ (inC [27, 40] 44 = true → Cond.castable C "LibraryDesk$Places" ∈ nwT ∨ C = "LibraryDesk$Places") ∧ (¬ inC [27, 40] 44 = true → (C, "LibraryDesk$Places") ∈ ncT) := ⟨by decide, RX34, TX34, 10, clr_44, fun h => absurd h (by decide), fun _ => ncr_376⟩
theorem ncr_375 : ("LibraryDesk$SubThing", "LibraryDesk$Places") ∈ ncT := List.mem_of_getElem? (i := 375) rfl
theorem iof_Places_43 : 7 < 43 ∧ ∃ (C : String) (T : u_T) (N : Nat), clT[clI 43]? = some (C, T, N) ∧ (inC [27, 40] 43 = true → Cond.castable C "LibraryDesk$Places" ∈ nwT ∨ C = "LibraryDesk$Places") ∧ (¬ inC [27, 40] 43 = true → (C, "LibraryDesk$Places") ∈ ncT) := ⟨by decide, RX33, TX33, 11, clr_43, fun h => absurd h (by decide), fun _ => ncr_375⟩
theorem ncr_374 : ("LibraryDesk$DecimalThing", "LibraryDesk$Places") ∈ ncT := List.mem_of_getElem? (i := 374) rfl
theorem iof_Places_42 : 7 < 42 ∧ ∃ (C : String) (T : u_T) (N : Nat), clT[clI 42]? = some (C, T, N) ∧ (inC [27, 40] 42 = true → Cond.castable C "LibraryDesk$Places" ∈ nwT ∨ C = "LibraryDesk$Places") ∧ (¬ inC [27, 40] 42 = true → (C, "LibraryDesk$Places") ∈ ncT) := ⟨by decide, RX32, TX32, 4, clr_42, fun h => absurd h (by decide), fun _ => ncr_374⟩
theorem ncr_373 : ("LibraryDesk$WholeThing", "LibraryDesk$Places") ∈ ncT := List.mem_of_getElem? (i := 373) rfl
theorem iof_Places_41 : 7 < 41 ∧ ∃ (C : String) (T : u_T) (N : Nat), clT[clI 41]? = some (C, T, N) ∧ (inC [27, 40] 41 = true → Cond.castable C "LibraryDesk$Places" ∈ nwT ∨ C = "LibraryDesk$Places") ∧ (¬ inC [27, 40] 41 = true → (C, "LibraryDesk$Places") ∈ ncT) := ⟨by decide, RX31, TX31, 3, clr_41, fun h => absurd h (by decide), fun _ => ncr_373⟩
theorem iof_Places_40 : 7 < 40 ∧ ∃ (C : String) (T : u_T) (N : Nat), clT[clI 40]? = some (C, T, N) ∧ (inC [27, 40] 40 = true → Cond.castable C "LibraryDesk$Places" ∈ nwT ∨ C = "LibraryDesk$Places") ∧ (¬ inC [27, 40] 40 = true → (C, "LibraryDesk$Places") ∈ ncT) := ⟨by decide, RX30, TX30, 6, clr_40, fun _ => Or.inl nw6102, fun h => absurd (by decide) h⟩
theorem ncr_372 : ("LibraryDesk$CursorThing", "LibraryDesk$Places") ∈ ncT := List.mem_of_getElem? (i := 372) rfl
theorem iof_Places_39 : 7 < 39 ∧ ∃ (C : String) (T : u_T) (N : Nat), clT[clI 39]? = some (C, T, N) ∧ (inC [27, 40] 39 = true → Cond.castable C "LibraryDesk$Places" ∈ nwT ∨ C = "LibraryDesk$Places") ∧ (¬ inC [27, 40] 39 = true → (C, "LibraryDesk$Places") ∈ ncT) := ⟨by decide, RX29, TX29, 6, clr_39, fun h => absurd h (by decide), fun _ => ncr_372⟩
theorem ncr_371 : ("LibraryDesk$PatternThing", "LibraryDesk$Places") ∈ ncT := List.mem_of_getElem? (i := 371) rfl
theorem iof_Places_38 : 7 < 38 ∧ ∃ (C : String) (T : u_T) (N : Nat), clT[clI 38]? = some (C, T, N) ∧ (inC [27, 40] 38 = true → Cond.castable C "LibraryDesk$Places" ∈ nwT ∨ C = "LibraryDesk$Places") ∧ (¬ inC [27, 40] 38 = true → (C, "LibraryDesk$Places") ∈ ncT) := ⟨by decide, RX28, TX28, 13, clr_38, fun h => absurd h (by decide), fun _ => ncr_371⟩
theorem ncr_370 : ("LibraryDesk$TextThing", "LibraryDesk$Places") ∈ ncT := List.mem_of_getElem? (i := 370) rfl
theorem iof_Places_37 : 7 < 37 ∧ ∃ (C : String) (T : u_T) (N : Nat), clT[clI 37]? = some (C, T, N) ∧ (inC [27, 40] 37 = true → Cond.castable C "LibraryDesk$Places" ∈ nwT ∨ C = "LibraryDesk$Places") ∧ (¬ inC [27, 40] 37 = true → (C, "LibraryDesk$Places") ∈ ncT) := ⟨by decide, RX27, TX27, 4, clr_37, fun h => absurd h (by decide), fun _ => ncr_370⟩
theorem ncr_369 : ("LibraryDesk$BitsThing", "LibraryDesk$Places") ∈ ncT := List.mem_of_getElem? (i := 369) rfl
theorem iof_Places_36 : 7 < 36 ∧ ∃ (C : String) (T : u_T) (N : Nat), clT[clI 36]? = some (C, T, N) ∧ (inC [27, 40] 36 = true → Cond.castable C "LibraryDesk$Places" ∈ nwT ∨ C = "LibraryDesk$Places") ∧ (¬ inC [27, 40] 36 = true → (C, "LibraryDesk$Places") ∈ ncT) := ⟨by decide, RX26, TX26, 3, clr_36, fun h => absurd h (by decide), fun _ => ncr_369⟩
theorem ncr_368 : ("LibraryDesk$HeapThing", "LibraryDesk$Places") ∈ ncT := List.mem_of_getElem? (i := 368) rfl
theorem iof_Places_35 : 7 < 35 ∧ ∃ (C : String) (T : u_T) (N : Nat), clT[clI 35]? = some (C, T, N) ∧ (inC [27, 40] 35 = true → Cond.castable C "LibraryDesk$Places" ∈ nwT ∨ C = "LibraryDesk$Places") ∧ (¬ inC [27, 40] 35 = true → (C, "LibraryDesk$Places") ∈ ncT) := ⟨by decide, RX25, TX25, 8, clr_35, fun h => absurd h (by decide), fun _ => ncr_368⟩
theorem ncr_367 : ("LibraryDesk$TreeThing", "LibraryDesk$Places") ∈ ncT := List.mem_of_getElem? (i := 367) rfl
theorem iof_Places_34 : 7 < 34 ∧ ∃ (C : String) (T : u_T) (N : Nat), clT[clI 34]? = some (C, T, N) ∧ (inC [27, 40] 34 = true → Cond.castable C "LibraryDesk$Places" ∈ nwT ∨ C = "LibraryDesk$Places") ∧ (¬ inC [27, 40] 34 = true → (C, "LibraryDesk$Places") ∈ ncT) := ⟨by decide, RX24, TX24, 10, clr_34, fun h => absurd h (by decide), fun _ => ncr_367⟩
theorem ncr_366 : ("LibraryDesk$LinkedThing", "LibraryDesk$Places") ∈ ncT := List.mem_of_getElem? (i := 366) rfl
theorem iof_Places_33 : 7 < 33 ∧ ∃ (C : String) (T : u_T) (N : Nat), clT[clI 33]? = some (C, T, N) ∧ (inC [27, 40] 33 = true → Cond.castable C "LibraryDesk$Places" ∈ nwT ∨ C = "LibraryDesk$Places") ∧ (¬ inC [27, 40] 33 = true → (C, "LibraryDesk$Places") ∈ ncT) := ⟨by decide, RX23, TX23, 11, clr_33, fun h => absurd h (by decide), fun _ => ncr_366⟩
theorem ncr_364 : ("LibraryDesk$HashThing", "LibraryDesk$Places") ∈ ncT := List.mem_of_getElem? (i := 364) rfl
theorem iof_Places_31 : 7 < 31 ∧ ∃ (C : String) (T : u_T) (N : Nat), clT[clI 31]? = some (C, T, N) ∧ (inC [27, 40] 31 = true → Cond.castable C "LibraryDesk$Places" ∈ nwT ∨ C = "LibraryDesk$Places") ∧ (¬ inC [27, 40] 31 = true → (C, "LibraryDesk$Places") ∈ ncT) := ⟨by decide, RX21, TX21, 11, clr_31, fun h => absurd h (by decide), fun _ => ncr_364⟩
theorem ncr_363 : ("LibraryDesk$RingThing", "LibraryDesk$Places") ∈ ncT := List.mem_of_getElem? (i := 363) rfl
theorem iof_Places_29 : 7 < 29 ∧ ∃ (C : String) (T : u_T) (N : Nat), clT[clI 29]? = some (C, T, N) ∧ (inC [27, 40] 29 = true → Cond.castable C "LibraryDesk$Places" ∈ nwT ∨ C = "LibraryDesk$Places") ∧ (¬ inC [27, 40] 29 = true → (C, "LibraryDesk$Places") ∈ ncT) := ⟨by decide, RX19, TX19, 6, clr_29, fun h => absurd h (by decide), fun _ => ncr_363⟩
theorem iof_Places_27 : 7 < 27 ∧ ∃ (C : String) (T : u_T) (N : Nat), clT[clI 27]? = some (C, T, N) ∧ (inC [27, 40] 27 = true → Cond.castable C "LibraryDesk$Places" ∈ nwT ∨ C = "LibraryDesk$Places") ∧ (¬ inC [27, 40] 27 = true → (C, "LibraryDesk$Places") ∈ ncT) := ⟨by decide, RX17, TX17, 3, clr_27, fun _ => Or.inl nw6101, fun h => absurd (by decide) h⟩
theorem ef_Desk_10 : EXF "LibraryDesk" "java/lang/ClassCastException" ["java/lang/RuntimeException", "java/lang/Exception"] 10 12 65 := ⟨by decide, rfl, ⟨TEx, rfl⟩, by decide, by decide +kernel, by decide +kernel, q2004, q553, List.forall_mem_append.mpr ⟨List.forall_mem_append.mpr ⟨thr_A, List.forall_mem_cons.mpr ⟨fun _ => Or.inl q2006, List.forall_mem_cons.mpr ⟨fun _ => Or.inl q2007, List.forall_mem_cons.mpr ⟨fun _ => Or.inl q2008, List.forall_mem_cons.mpr ⟨fun _ => Or.inl q1261, List.forall_mem_cons.mpr ⟨fun _ => Or.inr ⟨nw1220, rfl⟩, List.forall_mem_cons.mpr ⟨fun _ => Or.inl q1261, List.forall_mem_cons.mpr ⟨fun _ => Or.inl q1262, List.forall_mem_cons.mpr ⟨fun _ => Or.inl q1263, List.forall_mem_cons.mpr ⟨fun _ => Or.inl q1264, List.forall_mem_cons.mpr ⟨fun _ => Or.inr ⟨nw1222, rfl⟩, List.forall_mem_cons.mpr ⟨fun _ => Or.inl q1264, List.forall_mem_cons.mpr ⟨fun _ => Or.inl q1265, List.forall_mem_cons.mpr ⟨fun _ => Or.inl q1266, List.forall_mem_cons.mpr ⟨fun _ => Or.inl q1234, List.forall_mem_cons.mpr ⟨fun _ => Or.inr ⟨nw1224, rfl⟩, fun _ h => absurd h List.not_mem_nil⟩⟩⟩⟩⟩⟩⟩⟩⟩⟩⟩⟩⟩⟩⟩⟩, List.forall_mem_cons.mpr ⟨fun _ => Or.inl q2005, List.forall_mem_cons.mpr ⟨fun _ => Or.inl q1971, List.forall_mem_cons.mpr ⟨fun _ => Or.inr ⟨nw1982, rfl⟩, List.forall_mem_cons.mpr ⟨fun _ => Or.inl q1983, List.forall_mem_cons.mpr ⟨fun _ => Or.inl q1186, List.forall_mem_cons.mpr ⟨fun _ => Or.inl q1977, List.forall_mem_cons.mpr ⟨fun _ => Or.inl q1978, List.forall_mem_cons.mpr ⟨fun _ => Or.inl q1980, List.forall_mem_cons.mpr ⟨fun _ => Or.inl q1976, List.forall_mem_cons.mpr ⟨fun h => absurd h (by decide), List.forall_mem_cons.mpr ⟨fun h => absurd h (by decide), List.forall_mem_cons.mpr ⟨fun _ => Or.inl q1232, List.forall_mem_cons.mpr ⟨fun _ => Or.inl q1231, List.forall_mem_cons.mpr ⟨fun _ => Or.inl q1975, fun _ h => absurd h List.not_mem_nil⟩⟩⟩⟩⟩⟩⟩⟩⟩⟩⟩⟩⟩⟩⟩⟩
theorem ef_Desk_16 : EXF "LibraryDesk" "java/lang/UnsupportedOperationException" ["java/lang/RuntimeException", "java/lang/Exception"] 16 18 66 := ⟨by decide, rfl, ⟨TEx, rfl⟩, by decide, by decide +kernel, by decide +kernel, q2172, q555, List.forall_mem_append.mpr ⟨List.forall_mem_append.mpr ⟨thr_A, List.forall_mem_cons.mpr ⟨fun _ => Or.inl q2182, List.forall_mem_cons.mpr ⟨fun _ => Or.inl q2183, List.forall_mem_cons.mpr ⟨fun _ => Or.inl q2184, List.forall_mem_cons.mpr ⟨fun _ => Or.inl q1261, List.forall_mem_cons.mpr ⟨fun _ => Or.inr ⟨nw1220, rfl⟩, List.forall_mem_cons.mpr ⟨fun _ => Or.inl q1261, List.forall_mem_cons.mpr ⟨fun _ => Or.inl q1262, List.forall_mem_cons.mpr ⟨fun _ => Or.inl q1263, List.forall_mem_cons.mpr ⟨fun _ => Or.inl q1264, List.forall_mem_cons.mpr ⟨fun _ => Or.inr ⟨nw1222, rfl⟩, List.forall_mem_cons.mpr ⟨fun _ => Or.inl q1264, List.forall_mem_cons.mpr ⟨fun _ => Or.inl q1265, List.forall_mem_cons.mpr ⟨fun _ => Or.inl q1266, List.forall_mem_cons.mpr ⟨fun _ => Or.inl q1234, List.forall_mem_cons.mpr ⟨fun _ => Or.inr ⟨nw1224, rfl⟩, fun _ h => absurd h List.not_mem_nil⟩⟩⟩⟩⟩⟩⟩⟩⟩⟩⟩⟩⟩⟩⟩⟩, List.forall_mem_cons.mpr ⟨fun _ => Or.inl q2181, List.forall_mem_cons.mpr ⟨fun _ => Or.inl q2173, List.forall_mem_cons.mpr ⟨fun _ => Or.inr ⟨nw2174, rfl⟩, List.forall_mem_cons.mpr ⟨fun _ => Or.inl q2175, List.forall_mem_cons.mpr ⟨fun _ => Or.inl q1191, List.forall_mem_cons.mpr ⟨fun _ => Or.inl q2176, List.forall_mem_cons.mpr ⟨fun _ => Or.inl q2177, List.forall_mem_cons.mpr ⟨fun _ => Or.inl q2178, List.forall_mem_cons.mpr ⟨fun _ => Or.inl q2179, List.forall_mem_cons.mpr ⟨fun h => absurd h (by decide), List.forall_mem_cons.mpr ⟨fun h => absurd h (by decide), List.forall_mem_cons.mpr ⟨fun _ => Or.inl q1232, List.forall_mem_cons.mpr ⟨fun _ => Or.inl q1231, List.forall_mem_cons.mpr ⟨fun _ => Or.inl q2180, fun _ h => absurd h List.not_mem_nil⟩⟩⟩⟩⟩⟩⟩⟩⟩⟩⟩⟩⟩⟩⟩⟩
theorem hdd_Desk_of_ : yX1_of.cls ≠ "java/lang/invoke/MethodHandle" ∧ yX1_of.cls ≠ "java/lang/invoke/VarHandle" ∧ (parseMethodDescriptor yX1_of.desc).map (fun d => d.parameters.length) = some 2 := by decide +kernel
theorem mok_Desk_of : MOK m_Desk_of := ⟨by decide +kernel, by decide, cd_Desk_of, pg_Desk_of⟩
theorem hdd_RingThing_call_ : yX19_call.cls ≠ "java/lang/invoke/MethodHandle" ∧ yX19_call.cls ≠ "java/lang/invoke/VarHandle" ∧ (parseMethodDescriptor yX19_call.desc).map (fun d => d.parameters.length) = some 2 := by decide +kernel
theorem mok_RingThing_call : MOK m_RingThing_call := ⟨by decide +kernel, by decide, cd_RingThing_call, pg_RingThing_call⟩
theorem hdd_Desk_maps_ : yX1_maps.cls ≠ "java/lang/invoke/MethodHandle" ∧ yX1_maps.cls ≠ "java/lang/invoke/VarHandle" ∧ (parseMethodDescriptor yX1_maps.desc).map (fun d => d.parameters.length) = some 1 := by decide +kernel
theorem mok_Desk_maps : MOK m_Desk_maps := ⟨by decide +kernel, by decide, cd_Desk_maps, pg_Desk_maps⟩
theorem hdd_Desk_checkOp_ : yX1_checkOp.cls ≠ "java/lang/invoke/MethodHandle" ∧ yX1_checkOp.cls ≠ "java/lang/invoke/VarHandle" ∧ (parseMethodDescriptor yX1_checkOp.desc).map (fun d => d.parameters.length) = some 2 := by decide +kernel
theorem mok_Desk_checkOp : MOK m_Desk_checkOp := ⟨by decide +kernel, by decide, cd_Desk_checkOp, pg_Desk_checkOp⟩
theorem hdx_LibraryDesk_Maps_put__IIZZ_J_0 : ("LibraryDesk$Maps" : String) ≠ "java/lang/invoke/MethodHandle" ∧ ("LibraryDesk$Maps" : String) ≠ "java/lang/invoke/VarHandle" ∧ (parseMethodDescriptor "(IIZZ)J").map (fun d => d.parameters.length) = some 4 := by decide +kernel
theorem mok_Maps_put : MOK m_Maps_put := ⟨by decide +kernel, by decide, cd_Maps_put, pg_Maps_put⟩
theorem hdx_LibraryDesk_Maps_get__I_J_0 : ("LibraryDesk$Maps" : String) ≠ "java/lang/invoke/MethodHandle" ∧ ("LibraryDesk$Maps" : String) ≠ "java/lang/invoke/VarHandle" ∧ (parseMethodDescriptor "(I)J").map (fun d => d.parameters.length) = some 1 := by decide +kernel
theorem mok_Maps_get : MOK m_Maps_get := ⟨by decide +kernel, by decide, cd_Maps_get, pg_Maps_get⟩
theorem hdx_LibraryDesk_Maps_drop__I_J_0 : ("LibraryDesk$Maps" : String) ≠ "java/lang/invoke/MethodHandle" ∧ ("LibraryDesk$Maps" : String) ≠ "java/lang/invoke/VarHandle" ∧ (parseMethodDescriptor "(I)J").map (fun d => d.parameters.length) = some 1 := by decide +kernel
theorem mok_Maps_drop : MOK m_Maps_drop := ⟨by decide +kernel, by decide, cd_Maps_drop, pg_Maps_drop⟩
theorem hdx_LibraryDesk_Maps_find__I_I_0 : ("LibraryDesk$Maps" : String) ≠ "java/lang/invoke/MethodHandle" ∧ ("LibraryDesk$Maps" : String) ≠ "java/lang/invoke/VarHandle" ∧ (parseMethodDescriptor "(I)I").map (fun d => d.parameters.length) = some 1 := by decide +kernel
theorem mok_SubThing_find : MOK m_SubThing_find := ⟨by decide +kernel, by decide, cd_SubThing_find, pg_SubThing_find⟩
theorem mok_TreeThing_find : MOK m_TreeThing_find := ⟨by decide +kernel, by decide, cd_TreeThing_find, pg_TreeThing_find⟩
theorem mok_LinkedThing_find : MOK m_LinkedThing_find := ⟨by decide +kernel, by decide, cd_LinkedThing_find, pg_LinkedThing_find⟩
theorem mok_HashThing_find : MOK m_HashThing_find := ⟨by decide +kernel, by decide, cd_HashThing_find, pg_HashThing_find⟩
theorem hdx_LibraryDesk_Maps_size___I_0 : ("LibraryDesk$Maps" : String) ≠ "java/lang/invoke/MethodHandle" ∧ ("LibraryDesk$Maps" : String) ≠ "java/lang/invoke/VarHandle" ∧ (parseMethodDescriptor "()I").map (fun d => d.parameters.length) = some 0 := by decide +kernel
theorem mok_SubThing_size : MOK m_SubThing_size := ⟨by decide +kernel, by decide, cd_SubThing_size, pg_SubThing_size⟩
theorem mok_TreeThing_size : MOK m_TreeThing_size := ⟨by decide +kernel, by decide, cd_TreeThing_size, pg_TreeThing_size⟩
theorem mok_LinkedThing_size : MOK m_LinkedThing_size := ⟨by decide +kernel, by decide, cd_LinkedThing_size, pg_LinkedThing_size⟩
theorem mok_HashThing_size : MOK m_HashThing_size := ⟨by decide +kernel, by decide, cd_HashThing_size, pg_HashThing_size⟩
theorem hdx_LibraryDesk_Maps_clear___V_0 : ("LibraryDesk$Maps" : String) ≠ "java/lang/invoke/MethodHandle" ∧ ("LibraryDesk$Maps" : String) ≠ "java/lang/invoke/VarHandle" ∧ (parseMethodDescriptor "()V").map (fun d => d.parameters.length) = some 0 := by decide +kernel
theorem mok_SubThing_clear : MOK m_SubThing_clear := ⟨by decide +kernel, by decide, cd_SubThing_clear, pg_SubThing_clear⟩
theorem mok_TreeThing_clear : MOK m_TreeThing_clear := ⟨by decide +kernel, by decide, cd_TreeThing_clear, pg_TreeThing_clear⟩
theorem mok_LinkedThing_clear : MOK m_LinkedThing_clear := ⟨by decide +kernel, by decide, cd_LinkedThing_clear, pg_LinkedThing_clear⟩
theorem mok_HashThing_clear : MOK m_HashThing_clear := ⟨by decide +kernel, by decide, cd_HashThing_clear, pg_HashThing_clear⟩
theorem hdx_LibraryDesk_Maps_more__II_J_0 : ("LibraryDesk$Maps" : String) ≠ "java/lang/invoke/MethodHandle" ∧ ("LibraryDesk$Maps" : String) ≠ "java/lang/invoke/VarHandle" ∧ (parseMethodDescriptor "(II)J").map (fun d => d.parameters.length) = some 2 := by decide +kernel
theorem mok_Maps_more : MOK m_Maps_more := ⟨by decide +kernel, by decide, cd_Maps_more, pg_Maps_more⟩
theorem hdx_LibraryDesk_Maps_countValue__I_I_0 : ("LibraryDesk$Maps" : String) ≠ "java/lang/invoke/MethodHandle" ∧ ("LibraryDesk$Maps" : String) ≠ "java/lang/invoke/VarHandle" ∧ (parseMethodDescriptor "(I)I").map (fun d => d.parameters.length) = some 1 := by decide +kernel
theorem mok_Maps_countValue : MOK m_Maps_countValue := ⟨by decide +kernel, by decide, cd_Maps_countValue, pg_Maps_countValue⟩
theorem hdx_LibraryDesk_Maps_end__ZZ_J_0 : ("LibraryDesk$Maps" : String) ≠ "java/lang/invoke/MethodHandle" ∧ ("LibraryDesk$Maps" : String) ≠ "java/lang/invoke/VarHandle" ∧ (parseMethodDescriptor "(ZZ)J").map (fun d => d.parameters.length) = some 2 := by decide +kernel
theorem mok_Maps_end : MOK m_Maps_end := ⟨by decide +kernel, by decide, cd_Maps_end, pg_Maps_end⟩
theorem hdx_LibraryDesk_Maps_hash___I_0 : ("LibraryDesk$Maps" : String) ≠ "java/lang/invoke/MethodHandle" ∧ ("LibraryDesk$Maps" : String) ≠ "java/lang/invoke/VarHandle" ∧ (parseMethodDescriptor "()I").map (fun d => d.parameters.length) = some 0 := by decide +kernel
theorem mok_Maps_hash : MOK m_Maps_hash := ⟨by decide +kernel, by decide, cd_Maps_hash, pg_Maps_hash⟩
theorem hdx_LibraryDesk_Maps_same__LLibraryDesk_Maps__I_0 : ("LibraryDesk$Maps" : String) ≠ "java/lang/invoke/MethodHandle" ∧ ("LibraryDesk$Maps" : String) ≠ "java/lang/invoke/VarHandle" ∧ (parseMethodDescriptor "(LLibraryDesk$Maps;)I").map (fun d => d.parameters.length) = some 1 := by decide +kernel
theorem mok_Maps_same : MOK m_Maps_same := ⟨by decide +kernel, by decide, cd_Maps_same, pg_Maps_same⟩
theorem hdd_Desk_putAll_ : yX1_putAll.cls ≠ "java/lang/invoke/MethodHandle" ∧ yX1_putAll.cls ≠ "java/lang/invoke/VarHandle" ∧ (parseMethodDescriptor yX1_putAll.desc).map (fun d => d.parameters.length) = some 2 := by decide +kernel
theorem mok_Desk_putAll : MOK m_Desk_putAll := ⟨by decide +kernel, by decide, cd_Desk_putAll, pg_Desk_putAll⟩
theorem gf_Desk_392_31 : GF "LibraryDesk" "LibraryDesk$HashThing" "LibraryDesk" 392 0 288 31 := ⟨RX21, TX21, 11, 7, by decide, clr_31, in_X21, by decide, rfl, Or.inr nw1483, rfl⟩
theorem hdd_HashThing_bushyBins_ : yX21_bushyBins.cls ≠ "java/lang/invoke/MethodHandle" ∧ yX21_bushyBins.cls ≠ "java/lang/invoke/VarHandle" ∧ (parseMethodDescriptor yX21_bushyBins.desc).map (fun d => d.parameters.length) = some 0 := by decide +kernel
theorem mok_HashThing_bushyBins : MOK m_HashThing_bushyBins := ⟨by decide +kernel, by decide, cd_HashThing_bushyBins, pg_HashThing_bushyBins⟩
theorem hdd_Near_rank_ : yX37_rank.cls ≠ "java/lang/invoke/MethodHandle" ∧ yX37_rank.cls ≠ "java/lang/invoke/VarHandle" ∧ (parseMethodDescriptor yX37_rank.desc).map (fun d => d.parameters.length) = some 2 := by decide +kernel
theorem mok_Near_rank : MOK m_Near_rank := ⟨by decide +kernel, by decide, cd_Near_rank, pg_Near_rank⟩
theorem hdd_Near_nearest_ : yX37_nearest.cls ≠ "java/lang/invoke/MethodHandle" ∧ yX37_nearest.cls ≠ "java/lang/invoke/VarHandle" ∧ (parseMethodDescriptor yX37_nearest.desc).map (fun d => d.parameters.length) = some 3 := by decide +kernel
theorem mok_Near_nearest : MOK m_Near_nearest := ⟨by decide +kernel, by decide, cd_Near_nearest, pg_Near_nearest⟩
theorem kf1_Maps_43 : KF1 "LibraryDesk$Maps" 43 := ⟨by decide, RX33, TX33, 11, clr_43, Or.inl nw6105⟩
theorem kf1_Maps_34 : KF1 "LibraryDesk$Maps" 34 := ⟨by decide, RX24, TX24, 10, clr_34, Or.inl nw6106⟩
theorem kf1_Maps_33 : KF1 "LibraryDesk$Maps" 33 := ⟨by decide, RX23, TX23, 11, clr_33, Or.inl nw6104⟩
theorem kf1_Maps_31 : KF1 "LibraryDesk$Maps" 31 := ⟨by decide, RX21, TX21, 11, clr_31, Or.inl nw6103⟩
theorem ncr_416 : ("LibraryDesk$SyncThing", "LibraryDesk$Maps") ∈ ncT := List.mem_of_getElem? (i := 416) rfl
theorem iof_Maps_44 : 7 < 44 ∧ ∃ (C : String) (T : u_T) (N : Nat), clT[clI 44]? = some (C, T, N) ∧ (inC [31, 33, 34, 43] 44 = true → Cond.castable C "LibraryDesk$Maps" ∈ nwT ∨ C = "LibraryDesk$Maps") ∧ (¬ inC [31, 33, 34, 43] 44 = true → (C, "LibraryDesk$Maps") ∈ ncT) := ⟨by decide, RX34, TX34, 10, clr_44, fun h => absurd h (by decide), fun _ => ncr_416⟩
theorem iof_Maps_43 : 7 < 43 ∧ ∃ (C : String) (T : u_T) (N : Nat), clT[clI 43]? = some (C, T, N) ∧ (inC [31, 33, 34, 43] 43 = true → Cond.castable C "LibraryDesk$Maps" ∈ nwT ∨ C = "LibraryDesk$Maps") ∧ (¬ inC [31, 33, 34, 43] 43 = true → (C, "LibraryDesk$Maps") ∈ ncT) := ⟨by decide, RX33, TX33, 11, clr_43, fun _ => Or.inl nw6105, fun h => absurd (by decide) h⟩
theorem ncr_415 : ("LibraryDesk$DecimalThing", "LibraryDesk$Maps") ∈ ncT := List.mem_of_getElem? (i := 415) rfl
theorem iof_Maps_42 : 7 < 42 ∧ ∃ (C : String) (T : u_T) (N : Nat), clT[clI 42]? = some (C, T, N) ∧ (inC [31, 33, 34, 43] 42 = true → Cond.castable C "LibraryDesk$Maps" ∈ nwT ∨ C = "LibraryDesk$Maps") ∧ (¬ inC [31, 33, 34, 43] 42 = true → (C, "LibraryDesk$Maps") ∈ ncT) := ⟨by decide, RX32, TX32, 4, clr_42, fun h => absurd h (by decide), fun _ => ncr_415⟩
theorem ncr_414 : ("LibraryDesk$WholeThing", "LibraryDesk$Maps") ∈ ncT := List.mem_of_getElem? (i := 414) rfl
theorem iof_Maps_41 : 7 < 41 ∧ ∃ (C : String) (T : u_T) (N : Nat), clT[clI 41]? = some (C, T, N) ∧ (inC [31, 33, 34, 43] 41 = true → Cond.castable C "LibraryDesk$Maps" ∈ nwT ∨ C = "LibraryDesk$Maps") ∧ (¬ inC [31, 33, 34, 43] 41 = true → (C, "LibraryDesk$Maps") ∈ ncT) := ⟨by decide, RX31, TX31, 3, clr_41, fun h => absurd h (by decide), fun _ => ncr_414⟩
theorem ncr_413 : ("LibraryDesk$ViewThing", "LibraryDesk$Maps") ∈ ncT := List.mem_of_getElem? (i := 413) rfl
theorem iof_Maps_40 : 7 < 40 ∧ ∃ (C : String) (T : u_T) (N : Nat), clT[clI 40]? = some (C, T, N) ∧ (inC [31, 33, 34, 43] 40 = true → Cond.castable C "LibraryDesk$Maps" ∈ nwT ∨ C = "LibraryDesk$Maps") ∧ (¬ inC [31, 33, 34, 43] 40 = true → (C, "LibraryDesk$Maps") ∈ ncT) := ⟨by decide, RX30, TX30, 6, clr_40, fun h => absurd h (by decide), fun _ => ncr_413⟩
theorem ncr_412 : ("LibraryDesk$CursorThing", "LibraryDesk$Maps") ∈ ncT := List.mem_of_getElem? (i := 412) rfl
theorem iof_Maps_39 : 7 < 39 ∧ ∃ (C : String) (T : u_T) (N : Nat), clT[clI 39]? = some (C, T, N) ∧ (inC [31, 33, 34, 43] 39 = true → Cond.castable C "LibraryDesk$Maps" ∈ nwT ∨ C = "LibraryDesk$Maps") ∧ (¬ inC [31, 33, 34, 43] 39 = true → (C, "LibraryDesk$Maps") ∈ ncT) := ⟨by decide, RX29, TX29, 6, clr_39, fun h => absurd h (by decide), fun _ => ncr_412⟩
theorem ncr_411 : ("LibraryDesk$PatternThing", "LibraryDesk$Maps") ∈ ncT := List.mem_of_getElem? (i := 411) rfl
theorem iof_Maps_38 : 7 < 38 ∧ ∃ (C : String) (T : u_T) (N : Nat), clT[clI 38]? = some (C, T, N) ∧ (inC [31, 33, 34, 43] 38 = true → Cond.castable C "LibraryDesk$Maps" ∈ nwT ∨ C = "LibraryDesk$Maps") ∧ (¬ inC [31, 33, 34, 43] 38 = true → (C, "LibraryDesk$Maps") ∈ ncT) := ⟨by decide, RX28, TX28, 13, clr_38, fun h => absurd h (by decide), fun _ => ncr_411⟩
theorem ncr_410 : ("LibraryDesk$TextThing", "LibraryDesk$Maps") ∈ ncT := List.mem_of_getElem? (i := 410) rfl
theorem iof_Maps_37 : 7 < 37 ∧ ∃ (C : String) (T : u_T) (N : Nat), clT[clI 37]? = some (C, T, N) ∧ (inC [31, 33, 34, 43] 37 = true → Cond.castable C "LibraryDesk$Maps" ∈ nwT ∨ C = "LibraryDesk$Maps") ∧ (¬ inC [31, 33, 34, 43] 37 = true → (C, "LibraryDesk$Maps") ∈ ncT) := ⟨by decide, RX27, TX27, 4, clr_37, fun h => absurd h (by decide), fun _ => ncr_410⟩
theorem ncr_409 : ("LibraryDesk$BitsThing", "LibraryDesk$Maps") ∈ ncT := List.mem_of_getElem? (i := 409) rfl
theorem iof_Maps_36 : 7 < 36 ∧ ∃ (C : String) (T : u_T) (N : Nat), clT[clI 36]? = some (C, T, N) ∧ (inC [31, 33, 34, 43] 36 = true → Cond.castable C "LibraryDesk$Maps" ∈ nwT ∨ C = "LibraryDesk$Maps") ∧ (¬ inC [31, 33, 34, 43] 36 = true → (C, "LibraryDesk$Maps") ∈ ncT) := ⟨by decide, RX26, TX26, 3, clr_36, fun h => absurd h (by decide), fun _ => ncr_409⟩
theorem ncr_408 : ("LibraryDesk$HeapThing", "LibraryDesk$Maps") ∈ ncT := List.mem_of_getElem? (i := 408) rfl
theorem iof_Maps_35 : 7 < 35 ∧ ∃ (C : String) (T : u_T) (N : Nat), clT[clI 35]? = some (C, T, N) ∧ (inC [31, 33, 34, 43] 35 = true → Cond.castable C "LibraryDesk$Maps" ∈ nwT ∨ C = "LibraryDesk$Maps") ∧ (¬ inC [31, 33, 34, 43] 35 = true → (C, "LibraryDesk$Maps") ∈ ncT) := ⟨by decide, RX25, TX25, 8, clr_35, fun h => absurd h (by decide), fun _ => ncr_408⟩
theorem iof_Maps_34 : 7 < 34 ∧ ∃ (C : String) (T : u_T) (N : Nat), clT[clI 34]? = some (C, T, N) ∧ (inC [31, 33, 34, 43] 34 = true → Cond.castable C "LibraryDesk$Maps" ∈ nwT ∨ C = "LibraryDesk$Maps") ∧ (¬ inC [31, 33, 34, 43] 34 = true → (C, "LibraryDesk$Maps") ∈ ncT) := ⟨by decide, RX24, TX24, 10, clr_34, fun _ => Or.inl nw6106, fun h => absurd (by decide) h⟩
theorem iof_Maps_33 : 7 < 33 ∧ ∃ (C : String) (T : u_T) (N : Nat), clT[clI 33]? = some (C, T, N) ∧ (inC [31, 33, 34, 43] 33 = true → Cond.castable C "LibraryDesk$Maps" ∈ nwT ∨ C = "LibraryDesk$Maps") ∧ (¬ inC [31, 33, 34, 43] 33 = true → (C, "LibraryDesk$Maps") ∈ ncT) := ⟨by decide, RX23, TX23, 11, clr_33, fun _ => Or.inl nw6104, fun h => absurd (by decide) h⟩
theorem iof_Maps_31 : 7 < 31 ∧ ∃ (C : String) (T : u_T) (N : Nat), clT[clI 31]? = some (C, T, N) ∧ (inC [31, 33, 34, 43] 31 = true → Cond.castable C "LibraryDesk$Maps" ∈ nwT ∨ C = "LibraryDesk$Maps") ∧ (¬ inC [31, 33, 34, 43] 31 = true → (C, "LibraryDesk$Maps") ∈ ncT) := ⟨by decide, RX21, TX21, 11, clr_31, fun _ => Or.inl nw6103, fun h => absurd (by decide) h⟩
theorem ncr_406 : ("LibraryDesk$RingThing", "LibraryDesk$Maps") ∈ ncT := List.mem_of_getElem? (i := 406) rfl
theorem iof_Maps_29 : 7 < 29 ∧ ∃ (C : String) (T : u_T) (N : Nat), clT[clI 29]? = some (C, T, N) ∧ (inC [31, 33, 34, 43] 29 = true → Cond.castable C "LibraryDesk$Maps" ∈ nwT ∨ C = "LibraryDesk$Maps") ∧ (¬ inC [31, 33, 34, 43] 29 = true → (C, "LibraryDesk$Maps") ∈ ncT) := ⟨by decide, RX19, TX19, 6, clr_29, fun h => absurd h (by decide), fun _ => ncr_406⟩
theorem ncr_404 : ("LibraryDesk$ListThing", "LibraryDesk$Maps") ∈ ncT := List.mem_of_getElem? (i := 404) rfl
theorem iof_Maps_27 : 7 < 27 ∧ ∃ (C : String) (T : u_T) (N : Nat), clT[clI 27]? = some (C, T, N) ∧ (inC [31, 33, 34, 43] 27 = true → Cond.castable C "LibraryDesk$Maps" ∈ nwT ∨ C = "LibraryDesk$Maps") ∧ (¬ inC [31, 33, 34, 43] 27 = true → (C, "LibraryDesk$Maps") ∈ ncT) := ⟨by decide, RX17, TX17, 3, clr_27, fun h => absurd h (by decide), fun _ => ncr_404⟩
theorem hdd_Desk_can_ : yX1_can.cls ≠ "java/lang/invoke/MethodHandle" ∧ yX1_can.cls ≠ "java/lang/invoke/VarHandle" ∧ (parseMethodDescriptor yX1_can.desc).map (fun d => d.parameters.length) = some 1 := by decide +kernel
theorem mok_Desk_can : MOK m_Desk_can := ⟨by decide +kernel, by decide, cd_Desk_can, pg_Desk_can⟩
theorem hdx_LibraryDesk_Maps_first___I_0 : ("LibraryDesk$Maps" : String) ≠ "java/lang/invoke/MethodHandle" ∧ ("LibraryDesk$Maps" : String) ≠ "java/lang/invoke/VarHandle" ∧ (parseMethodDescriptor "()I").map (fun d => d.parameters.length) = some 0 := by decide +kernel
theorem mok_SubThing_first : MOK m_SubThing_first := ⟨by decide +kernel, by decide, cd_SubThing_first, pg_SubThing_first⟩
theorem mok_TreeThing_first : MOK m_TreeThing_first := ⟨by decide +kernel, by decide, cd_TreeThing_first, pg_TreeThing_first⟩
theorem mok_LinkedThing_first : MOK m_LinkedThing_first := ⟨by decide +kernel, by decide, cd_LinkedThing_first, pg_LinkedThing_first⟩
theorem mok_HashThing_first : MOK m_HashThing_first := ⟨by decide +kernel, by decide, cd_HashThing_first, pg_HashThing_first⟩
theorem gf_Desk_129_11 : GF "LibraryDesk" "LibraryDesk" "LibraryDesk" 129 2 20 11 := ⟨RX1, TX1, 21, 19, by decide, clr_11, in_X1, by decide, rfl, Or.inl q1085, rfl⟩
theorem hdx_LibraryDesk_Maps_key__I_I_0 : ("LibraryDesk$Maps" : String) ≠ "java/lang/invoke/MethodHandle" ∧ ("LibraryDesk$Maps" : String) ≠ "java/lang/invoke/VarHandle" ∧ (parseMethodDescriptor "(I)I").map (fun d => d.parameters.length) = some 1 := by decide +kernel
theorem mok_SubThing_key : MOK m_SubThing_key := ⟨by decide +kernel, by decide, cd_SubThing_key, pg_SubThing_key⟩
theorem mok_TreeThing_key : MOK m_TreeThing_key := ⟨by decide +kernel, by decide, cd_TreeThing_key, pg_TreeThing_key⟩
theorem mok_LinkedThing_key : MOK m_LinkedThing_key := ⟨by decide +kernel, by decide, cd_LinkedThing_key, pg_LinkedThing_key⟩
theorem mok_HashThing_key : MOK m_HashThing_key := ⟨by decide +kernel, by decide, cd_HashThing_key, pg_HashThing_key⟩
theorem gf_Desk_132_11 : GF "LibraryDesk" "LibraryDesk" "LibraryDesk" 132 2 21 11 := ⟨RX1, TX1, 21, 20, by decide, clr_11, in_X1, by decide, rfl, Or.inl q1086, rfl⟩
theorem hdx_LibraryDesk_Maps_value__I_I_0 : ("LibraryDesk$Maps" : String) ≠ "java/lang/invoke/MethodHandle" ∧ ("LibraryDesk$Maps" : String) ≠ "java/lang/invoke/VarHandle" ∧ (parseMethodDescriptor "(I)I").map (fun d => d.parameters.length) = some 1 := by decide +kernel
theorem mok_SubThing_value : MOK m_SubThing_value := ⟨by decide +kernel, by decide, cd_SubThing_value, pg_SubThing_value⟩
theorem mok_TreeThing_value : MOK m_TreeThing_value := ⟨by decide +kernel, by decide, cd_TreeThing_value, pg_TreeThing_value⟩
theorem mok_LinkedThing_value : MOK m_LinkedThing_value := ⟨by decide +kernel, by decide, cd_LinkedThing_value, pg_LinkedThing_value⟩
theorem mok_HashThing_value : MOK m_HashThing_value := ⟨by decide +kernel, by decide, cd_HashThing_value, pg_HashThing_value⟩
theorem kf1_SubThing_43 : KF1 "LibraryDesk$SubThing" 43 := ⟨by decide, RX33, TX33, 11, clr_43, Or.inr rfl⟩
theorem hdd_SubThing_holds_ : yX33_holds.cls ≠ "java/lang/invoke/MethodHandle" ∧ yX33_holds.cls ≠ "java/lang/invoke/VarHandle" ∧ (parseMethodDescriptor yX33_holds.desc).map (fun d => d.parameters.length) = some 1 := by decide +kernel
theorem mok_SubThing_holds : MOK m_SubThing_holds := ⟨by decide +kernel, by decide, cd_SubThing_holds, pg_SubThing_holds⟩
theorem hdd_Desk_isSecond_ : yX1_isSecond.cls ≠ "java/lang/invoke/MethodHandle" ∧ yX1_isSecond.cls ≠ "java/lang/invoke/VarHandle" ∧ (parseMethodDescriptor yX1_isSecond.desc).map (fun d => d.parameters.length) = some 2 := by decide +kernel
theorem mok_Desk_isSecond : MOK m_Desk_isSecond := ⟨by decide +kernel, by decide, cd_Desk_isSecond, pg_Desk_isSecond⟩
theorem hdx_LibraryDesk_Maps_next__I_I_0 : ("LibraryDesk$Maps" : String) ≠ "java/lang/invoke/MethodHandle" ∧ ("LibraryDesk$Maps" : String) ≠ "java/lang/invoke/VarHandle" ∧ (parseMethodDescriptor "(I)I").map (fun d => d.parameters.length) = some 1 := by decide +kernel
theorem mok_SubThing_next : MOK m_SubThing_next := ⟨by decide +kernel, by decide, cd_SubThing_next, pg_SubThing_next⟩
theorem mok_TreeThing_next : MOK m_TreeThing_next := ⟨by decide +kernel, by decide, cd_TreeThing_next, pg_TreeThing_next⟩
theorem mok_LinkedThing_next : MOK m_LinkedThing_next := ⟨by decide +kernel, by decide, cd_LinkedThing_next, pg_LinkedThing_next⟩
theorem mok_HashThing_next : MOK m_HashThing_next := ⟨by decide +kernel, by decide, cd_HashThing_next, pg_HashThing_next⟩
theorem gf_Desk_426_33 : GF "LibraryDesk" "LibraryDesk$LinkedThing" "LibraryDesk" 426 0 304 33 := ⟨RX23, TX23, 11, 8, by decide, clr_33, in_X23, by decide, rfl, Or.inr nw1523, rfl⟩
theorem hdd_Desk_rootSize_ : yX1_rootSize.cls ≠ "java/lang/invoke/MethodHandle" ∧ yX1_rootSize.cls ≠ "java/lang/invoke/VarHandle" ∧ (parseMethodDescriptor yX1_rootSize.desc).map (fun d => d.parameters.length) = some 1 := by decide +kernel
theorem mok_Desk_rootSize : MOK m_Desk_rootSize := ⟨by decide +kernel, by decide, cd_Desk_rootSize, pg_Desk_rootSize⟩
theorem hdd_Near_compare_ : yX37_compare.cls ≠ "java/lang/invoke/MethodHandle" ∧ yX37_compare.cls ≠ "java/lang/invoke/VarHandle" ∧ (parseMethodDescriptor yX37_compare.desc).map (fun d => d.parameters.length) = some 3 := by decide +kernel
theorem mok_Near_compare : MOK m_Near_compare := ⟨by decide +kernel, by decide, cd_Near_compare, pg_Near_compare⟩
theorem hdd_TreeThing_size_ : yX24_size.cls ≠ "java/lang/invoke/MethodHandle" ∧ yX24_size.cls ≠ "java/lang/invoke/VarHandle" ∧ (parseMethodDescriptor yX24_size.desc).map (fun d => d.parameters.length) = some 0 := by decide +kernel
theorem gf_Desk_436_43 : GF "LibraryDesk" "LibraryDesk$SubThing" "LibraryDesk" 436 2 346 43 := ⟨RX33, TX33, 11, 2, by decide, clr_43, in_X33, by decide, rfl, Or.inr nw1785, rfl⟩
theorem hdx_LibraryDesk_Places_size___I_0 : ("LibraryDesk$Places" : String) ≠ "java/lang/invoke/MethodHandle" ∧ ("LibraryDesk$Places" : String) ≠ "java/lang/invoke/VarHandle" ∧ (parseMethodDescriptor "()I").map (fun d => d.parameters.length) = some 0 := by decide +kernel
theorem mok_ViewThing_size : MOK m_ViewThing_size := ⟨by decide +kernel, by decide, cd_ViewThing_size, pg_ViewThing_size⟩
theorem mok_ListThing_size : MOK m_ListThing_size := ⟨by decide +kernel, by decide, cd_ListThing_size, pg_ListThing_size⟩
theorem kf1_ViewThing_40 : KF1 "LibraryDesk$ViewThing" 40 := ⟨by decide, RX30, TX30, 6, clr_40, Or.inr rfl⟩
theorem hdd_ViewThing_begin_ : yX30_begin.cls ≠ "java/lang/invoke/MethodHandle" ∧ yX30_begin.cls ≠ "java/lang/invoke/VarHandle" ∧ (parseMethodDescriptor yX30_begin.desc).map (fun d => d.parameters.length) = some 3 := by decide +kernel
theorem mok_ViewThing_begin : MOK m_ViewThing_begin := ⟨by decide +kernel, by decide, cd_ViewThing_begin, pg_ViewThing_begin⟩
theorem hdd_SubThing_begin_ : yX33_begin.cls ≠ "java/lang/invoke/MethodHandle" ∧ yX33_begin.cls ≠ "java/lang/invoke/VarHandle" ∧ (parseMethodDescriptor yX33_begin.desc).map (fun d => d.parameters.length) = some 1 := by decide +kernel
theorem mok_SubThing_begin : MOK m_SubThing_begin := ⟨by decide +kernel, by decide, cd_SubThing_begin, pg_SubThing_begin⟩
theorem hdd_SubThing_fromOn_ : yX33_fromOn.cls ≠ "java/lang/invoke/MethodHandle" ∧ yX33_fromOn.cls ≠ "java/lang/invoke/VarHandle" ∧ (parseMethodDescriptor yX33_fromOn.desc).map (fun d => d.parameters.length) = some 1 := by decide +kernel
theorem mok_SubThing_fromOn : MOK m_SubThing_fromOn := ⟨by decide +kernel, by decide, cd_SubThing_fromOn, pg_SubThing_fromOn⟩
theorem hdd_SubThing_before_ : yX33_before.cls ≠ "java/lang/invoke/MethodHandle" ∧ yX33_before.cls ≠ "java/lang/invoke/VarHandle" ∧ (parseMethodDescriptor yX33_before.desc).map (fun d => d.parameters.length) = some 1 := by decide +kernel
theorem mok_SubThing_before : MOK m_SubThing_before := ⟨by decide +kernel, by decide, cd_SubThing_before, pg_SubThing_before⟩
theorem gf_Desk_454_43 : GF "LibraryDesk" "LibraryDesk$SubThing" "LibraryDesk" 454 0 348 43 := ⟨RX33, TX33, 11, 4, by decide, clr_43, in_X33, by decide, rfl, Or.inr nw1789, rfl⟩
theorem pf_Desk_454_43 {m : Nat} : PF m "LibraryDesk" "LibraryDesk$SubThing" "LibraryDesk" 454 0 348 .boolean 43 := ⟨RX33, TX33, 11, 4, tyX33, by decide, clr_43, in_X33, tyX33_ok, nmX33, by decide, rfl, nd_43, Or.inr (Or.inl ⟨nw1789, rfl⟩), rfl, by decide +kernel⟩
theorem kf1_CursorThing_39 : KF1 "LibraryDesk$CursorThing" 39 := ⟨by decide, RX29, TX29, 6, clr_39, Or.inr rfl⟩
theorem hdd_CursorThing_begin_ : yX29_begin.cls ≠ "java/lang/invoke/MethodHandle" ∧ yX29_begin.cls ≠ "java/lang/invoke/VarHandle" ∧ (parseMethodDescriptor yX29_begin.desc).map (fun d => d.parameters.length) = some 1 := by decide +kernel
theorem mok_CursorThing_begin : MOK m_CursorThing_begin := ⟨by decide +kernel, by decide, cd_CursorThing_begin, pg_CursorThing_begin⟩
theorem hdd_CursorThing_call_ : yX29_call.cls ≠ "java/lang/invoke/MethodHandle" ∧ yX29_call.cls ≠ "java/lang/invoke/VarHandle" ∧ (parseMethodDescriptor yX29_call.desc).map (fun d => d.parameters.length) = some 2 := by decide +kernel
theorem mok_CursorThing_call : MOK m_CursorThing_call := ⟨by decide +kernel, by decide, cd_CursorThing_call, pg_CursorThing_call⟩
theorem hdd_HeapThing_call_ : yX25_call.cls ≠ "java/lang/invoke/MethodHandle" ∧ yX25_call.cls ≠ "java/lang/invoke/VarHandle" ∧ (parseMethodDescriptor yX25_call.desc).map (fun d => d.parameters.length) = some 2 := by decide +kernel
theorem mok_HeapThing_call : MOK m_HeapThing_call := ⟨by decide +kernel, by decide, cd_HeapThing_call, pg_HeapThing_call⟩
theorem hdd_HeapThing_addAll_ : yX25_addAll.cls ≠ "java/lang/invoke/MethodHandle" ∧ yX25_addAll.cls ≠ "java/lang/invoke/VarHandle" ∧ (parseMethodDescriptor yX25_addAll.desc).map (fun d => d.parameters.length) = some 1 := by decide +kernel
theorem mok_HeapThing_addAll : MOK m_HeapThing_addAll := ⟨by decide +kernel, by decide, cd_HeapThing_addAll, pg_HeapThing_addAll⟩
theorem hdd_BitsThing_isOfOne_ : yX26_isOfOne.cls ≠ "java/lang/invoke/MethodHandle" ∧ yX26_isOfOne.cls ≠ "java/lang/invoke/VarHandle" ∧ (parseMethodDescriptor yX26_isOfOne.desc).map (fun d => d.parameters.length) = some 1 := by decide +kernel
theorem mok_BitsThing_isOfOne : MOK m_BitsThing_isOfOne := ⟨by decide +kernel, by decide, cd_BitsThing_isOfOne, pg_BitsThing_isOfOne⟩
theorem hdd_BitsThing_call_ : yX26_call.cls ≠ "java/lang/invoke/MethodHandle" ∧ yX26_call.cls ≠ "java/lang/invoke/VarHandle" ∧ (parseMethodDescriptor yX26_call.desc).map (fun d => d.parameters.length) = some 3 := by decide +kernel
theorem mok_BitsThing_call : MOK m_BitsThing_call := ⟨by decide +kernel, by decide, cd_BitsThing_call, pg_BitsThing_call⟩
theorem hdd_BitsThing_with_ : yX26_with.cls ≠ "java/lang/invoke/MethodHandle" ∧ yX26_with.cls ≠ "java/lang/invoke/VarHandle" ∧ (parseMethodDescriptor yX26_with.desc).map (fun d => d.parameters.length) = some 2 := by decide +kernel
theorem mok_BitsThing_with : MOK m_BitsThing_with := ⟨by decide +kernel, by decide, cd_BitsThing_with, pg_BitsThing_with⟩
theorem hdd_BitsThing_ask_ : yX26_ask.cls ≠ "java/lang/invoke/MethodHandle" ∧ yX26_ask.cls ≠ "java/lang/invoke/VarHandle" ∧ (parseMethodDescriptor yX26_ask.desc).map (fun d => d.parameters.length) = some 2 := by decide +kernel
theorem mok_BitsThing_ask : MOK m_BitsThing_ask := ⟨by decide +kernel, by decide, cd_BitsThing_ask, pg_BitsThing_ask⟩
theorem hdx_LibraryDesk_Places_get__I_I_0 : ("LibraryDesk$Places" : String) ≠ "java/lang/invoke/MethodHandle" ∧ ("LibraryDesk$Places" : String) ≠ "java/lang/invoke/VarHandle" ∧ (parseMethodDescriptor "(I)I").map (fun d => d.parameters.length) = some 1 := by decide +kernel
theorem mok_Places_get : MOK m_Places_get := ⟨by decide +kernel, by decide, cd_Places_get, pg_Places_get⟩
theorem ncr_466 : ("java/lang/ArithmeticException", "LibraryDesk$Broken") ∈ ncT := List.mem_of_getElem? (i := 466) rfl
theorem xr_LibraryDesk_Broken_67 : (inC [48] 67 = true → Cond.castable (exN 67) "LibraryDesk$Broken" ∈ nwT) ∧ (¬ inC [48] 67 = true → (exN 67, "LibraryDesk$Broken") ∈ ncT) := ⟨fun h => absurd h (by decide), fun _ => ncr_466⟩
theorem ncr_464 : ("java/lang/UnsupportedOperationException", "LibraryDesk$Broken") ∈ ncT := List.mem_of_getElem? (i := 464) rfl
theorem xr_LibraryDesk_Broken_66 : (inC [48] 66 = true → Cond.castable (exN 66) "LibraryDesk$Broken" ∈ nwT) ∧ (¬ inC [48] 66 = true → (exN 66, "LibraryDesk$Broken") ∈ ncT) := ⟨fun h => absurd h (by decide), fun _ => ncr_464⟩
theorem ncr_463 : ("java/lang/ClassCastException", "LibraryDesk$Broken") ∈ ncT := List.mem_of_getElem? (i := 463) rfl
theorem xr_LibraryDesk_Broken_65 : (inC [48] 65 = true → Cond.castable (exN 65) "LibraryDesk$Broken" ∈ nwT) ∧ (¬ inC [48] 65 = true → (exN 65, "LibraryDesk$Broken") ∈ ncT) := ⟨fun h => absurd h (by decide), fun _ => ncr_463⟩
theorem ncr_462 : ("java/util/NoSuchElementException", "LibraryDesk$Broken") ∈ ncT := List.mem_of_getElem? (i := 462) rfl
theorem xr_LibraryDesk_Broken_64 : (inC [48] 64 = true → Cond.castable (exN 64) "LibraryDesk$Broken" ∈ nwT) ∧ (¬ inC [48] 64 = true → (exN 64, "LibraryDesk$Broken") ∈ ncT) := ⟨fun h => absurd h (by decide), fun _ => ncr_462⟩
theorem ncr_443 : ("java/lang/IllegalStateException", "LibraryDesk$Broken") ∈ ncT := List.mem_of_getElem? (i := 443) rfl
theorem xr_LibraryDesk_Broken_63 : (inC [48] 63 = true → Cond.castable (exN 63) "LibraryDesk$Broken" ∈ nwT) ∧ (¬ inC [48] 63 = true → (exN 63, "LibraryDesk$Broken") ∈ ncT) := ⟨fun h => absurd h (by decide), fun _ => ncr_443⟩
theorem ncr_442 : ("java/lang/NegativeArraySizeException", "LibraryDesk$Broken") ∈ ncT := List.mem_of_getElem? (i := 442) rfl
theorem xr_LibraryDesk_Broken_62 : (inC [48] 62 = true → Cond.castable (exN 62) "LibraryDesk$Broken" ∈ nwT) ∧ (¬ inC [48] 62 = true → (exN 62, "LibraryDesk$Broken") ∈ ncT) := ⟨fun h => absurd h (by decide), fun _ => ncr_442⟩
theorem ncr_441 : ("java/lang/IllegalArgumentException", "LibraryDesk$Broken") ∈ ncT := List.mem_of_getElem? (i := 441) rfl
theorem xr_LibraryDesk_Broken_61 : (inC [48] 61 = true → Cond.castable (exN 61) "LibraryDesk$Broken" ∈ nwT) ∧ (¬ inC [48] 61 = true → (exN 61, "LibraryDesk$Broken") ∈ ncT) := ⟨fun h => absurd h (by decide), fun _ => ncr_441⟩
theorem ncr_440 : ("java/lang/IndexOutOfBoundsException", "LibraryDesk$Broken") ∈ ncT := List.mem_of_getElem? (i := 440) rfl
theorem xr_LibraryDesk_Broken_60 : (inC [48] 60 = true → Cond.castable (exN 60) "LibraryDesk$Broken" ∈ nwT) ∧ (¬ inC [48] 60 = true → (exN 60, "LibraryDesk$Broken") ∈ ncT) := ⟨fun h => absurd h (by decide), fun _ => ncr_440⟩
theorem ncr_467 : ("LibraryDeskModel$Refused", "LibraryDesk$Broken") ∈ ncT := List.mem_of_getElem? (i := 467) rfl
theorem xr_LibraryDesk_Broken_50 : (inC [48] 50 = true → Cond.castable (exN 50) "LibraryDesk$Broken" ∈ nwT) ∧ (¬ inC [48] 50 = true → (exN 50, "LibraryDesk$Broken") ∈ ncT) := ⟨fun h => absurd h (by decide), fun _ => ncr_467⟩
theorem ncr_465 : ("LibraryDeskModel$Broken", "LibraryDesk$Broken") ∈ ncT := List.mem_of_getElem? (i := 465) rfl
theorem xr_LibraryDesk_Broken_49 : (inC [48] 49 = true → Cond.castable (exN 49) "LibraryDesk$Broken" ∈ nwT) ∧ (¬ inC [48] 49 = true → (exN 49, "LibraryDesk$Broken") ∈ ncT) := ⟨fun h => absurd h (by decide), fun _ => ncr_465⟩
theorem xr_LibraryDesk_Broken_48 : (inC [48] 48 = true → Cond.castable (exN 48) "LibraryDesk$Broken" ∈ nwT) ∧ (¬ inC [48] 48 = true → (exN 48, "LibraryDesk$Broken") ∈ ncT) := ⟨fun _ => nw3101, fun h => absurd (by decide) h⟩
theorem hdd_Desk_readsTape_ : yX1_readsTape.cls ≠ "java/lang/invoke/MethodHandle" ∧ yX1_readsTape.cls ≠ "java/lang/invoke/VarHandle" ∧ (parseMethodDescriptor yX1_readsTape.desc).map (fun d => d.parameters.length) = some 1 := by decide +kernel
theorem mok_Desk_readsTape : MOK m_Desk_readsTape := ⟨by decide +kernel, by decide, cd_Desk_readsTape, pg_Desk_readsTape⟩
theorem hdd_Desk_take_ : yX1_take.cls ≠ "java/lang/invoke/MethodHandle" ∧ yX1_take.cls ≠ "java/lang/invoke/VarHandle" ∧ (parseMethodDescriptor yX1_take.desc).map (fun d => d.parameters.length) = some 0 := by decide +kernel
theorem mok_Desk_take : MOK m_Desk_take := ⟨by decide +kernel, by decide, cd_Desk_take, pg_Desk_take⟩
theorem hdd_Desk_texts_ : yX1_texts.cls ≠ "java/lang/invoke/MethodHandle" ∧ yX1_texts.cls ≠ "java/lang/invoke/VarHandle" ∧ (parseMethodDescriptor yX1_texts.desc).map (fun d => d.parameters.length) = some 1 := by decide +kernel
theorem mok_Desk_texts : MOK m_Desk_texts := ⟨by decide +kernel, by decide, cd_Desk_texts, pg_Desk_texts⟩
theorem hdd_TextThing_compare_ : yX27_compare.cls ≠ "java/lang/invoke/MethodHandle" ∧ yX27_compare.cls ≠ "java/lang/invoke/VarHandle" ∧ (parseMethodDescriptor yX27_compare.desc).map (fun d => d.parameters.length) = some 1 := by decide +kernel
theorem mok_TextThing_compare : MOK m_TextThing_compare := ⟨by decide +kernel, by decide, cd_TextThing_compare, pg_TextThing_compare⟩
theorem hdd_TextThing_call_ : yX27_call.cls ≠ "java/lang/invoke/MethodHandle" ∧ yX27_call.cls ≠ "java/lang/invoke/VarHandle" ∧ (parseMethodDescriptor yX27_call.desc).map (fun d => d.parameters.length) = some 6 := by decide +kernel
theorem mok_TextThing_call : MOK m_TextThing_call := ⟨by decide +kernel, by decide, cd_TextThing_call, pg_TextThing_call⟩
theorem gf_Desk_38_11 : GF "LibraryDesk" "LibraryDesk" "LibraryDesk" 38 2 3 11 := ⟨RX1, TX1, 21, 2, by decide, clr_11, in_X1, by decide, rfl, Or.inl q1068, rfl⟩
theorem hdd_Desk_broken_ : yX1_broken.cls ≠ "java/lang/invoke/MethodHandle" ∧ yX1_broken.cls ≠ "java/lang/invoke/VarHandle" ∧ (parseMethodDescriptor yX1_broken.desc).map (fun d => d.parameters.length) = some 1 := by decide +kernel
theorem mok_Desk_broken : MOK m_Desk_broken := ⟨by decide +kernel, by decide, cd_Desk_broken, pg_Desk_broken⟩
theorem inB_48 : ∀ w ∈ u_ws RX38 TB48 1, w ∈ lw_all := List.forall_mem_cons.mpr ⟨q3122, fun _ h => absurd h List.not_mem_nil⟩
theorem clr_48 : clT[clI 48]? = some (RX38, TB48, 1) := rfl
theorem gf_Desk_149_48 : GF "LibraryDesk" "LibraryDesk$Broken" "LibraryDesk" 149 0 365 48 := ⟨RX38, TB48, 1, 0, by decide, clr_48, inB_48, by decide, rfl, Or.inr nw3121, rfl⟩
theorem kf1_PatternThing_38 : KF1 "LibraryDesk$PatternThing" 38 := ⟨by decide, RX28, TX28, 13, clr_38, Or.inr rfl⟩
theorem hdd_PatternThing_begin_ : yX28_begin.cls ≠ "java/lang/invoke/MethodHandle" ∧ yX28_begin.cls ≠ "java/lang/invoke/VarHandle" ∧ (parseMethodDescriptor yX28_begin.desc).map (fun d => d.parameters.length) = some 0 := by decide +kernel
theorem mok_PatternThing_begin : MOK m_PatternThing_begin := ⟨by decide +kernel, by decide, cd_PatternThing_begin, pg_PatternThing_begin⟩
theorem gf_Desk_72_11 : GF "LibraryDesk" "LibraryDesk" "LibraryDesk" 72 2 12 11 := ⟨RX1, TX1, 21, 11, by decide, clr_11, in_X1, by decide, rfl, Or.inl q1077, rfl⟩
theorem hdd_PatternReader_read_ : yX4_read.cls ≠ "java/lang/invoke/MethodHandle" ∧ yX4_read.cls ≠ "java/lang/invoke/VarHandle" ∧ (parseMethodDescriptor yX4_read.desc).map (fun d => d.parameters.length) = some 3 := by decide +kernel
theorem mok_PatternReader_read : MOK m_PatternReader_read := ⟨by decide +kernel, by decide, cd_PatternReader_read, pg_PatternReader_read⟩
theorem gf_Desk_505_37 : GF "LibraryDesk" "LibraryDesk$TextThing" "LibraryDesk" 505 0 323 37 := ⟨RX27, TX27, 4, 3, by decide, clr_37, in_X27, by decide, rfl, Or.inr nw1633, rfl⟩
theorem gf_Desk_79_11 : GF "LibraryDesk" "LibraryDesk" "LibraryDesk" 79 2 13 11 := ⟨RX1, TX1, 21, 12, by decide, clr_11, in_X1, by decide, rfl, Or.inl q1078, rfl⟩
theorem hdd_Matcher_match_ : yX5_match.cls ≠ "java/lang/invoke/MethodHandle" ∧ yX5_match.cls ≠ "java/lang/invoke/VarHandle" ∧ (parseMethodDescriptor yX5_match.desc).map (fun d => d.parameters.length) = some 4 := by decide +kernel
theorem mok_Matcher_match : MOK m_Matcher_match := ⟨by decide +kernel, by decide, cd_Matcher_match, pg_Matcher_match⟩
theorem gf_Desk_510_15 : GF "LibraryDesk" "LibraryDesk$Matche\x72" "LibraryDesk" 510 2 43 15 := ⟨RX5, TX5, 11, 2, by decide, clr_15, in_X5, by decide, rfl, Or.inr nw678, rfl⟩
theorem hdd_Matcher_replace_ : yX5_replace.cls ≠ "java/lang/invoke/MethodHandle" ∧ yX5_replace.cls ≠ "java/lang/invoke/VarHandle" ∧ (parseMethodDescriptor yX5_replace.desc).map (fun d => d.parameters.length) = some 4 := by decide +kernel
theorem mok_Matcher_replace : MOK m_Matcher_replace := ⟨by decide +kernel, by decide, cd_Matcher_replace, pg_Matcher_replace⟩
theorem nd_16 : va_nd ((flT 16).map (·.2)) = true := by decide +kernel
theorem pf_Desk_517_16 {m : Nat} : PF m "LibraryDesk" "LibraryDesk$Forme\x72" "LibraryDesk" 517 2 52 (.array .byte) 16 := ⟨RX6, TX6, 13, 0, tyX6, by decide, clr_16, in_X6, tyX6_ok, nmX6, by decide, rfl, nd_16, Or.inr (Or.inl ⟨nw718, rfl⟩), rfl, by decide +kernel⟩
theorem gf_Desk_86_11 : GF "LibraryDesk" "LibraryDesk" "LibraryDesk" 86 2 14 11 := ⟨RX1, TX1, 21, 13, by decide, clr_11, in_X1, by decide, rfl, Or.inl q1079, rfl⟩
theorem pf_Desk_520_16 {m : Nat} : PF m "LibraryDesk" "LibraryDesk$Forme\x72" "LibraryDesk" 520 0 53 .int 16 := ⟨RX6, TX6, 13, 1, tyX6, by decide, clr_16, in_X6, tyX6_ok, nmX6, by decide, rfl, nd_16, Or.inr (Or.inl ⟨nw720, rfl⟩), rfl, by decide +kernel⟩
theorem hdd_Former_check_ : yX6_check.cls ≠ "java/lang/invoke/MethodHandle" ∧ yX6_check.cls ≠ "java/lang/invoke/VarHandle" ∧ (parseMethodDescriptor yX6_check.desc).map (fun d => d.parameters.length) = some 0 := by decide +kernel
theorem mok_Former_check : MOK m_Former_check := ⟨by decide +kernel, by decide, cd_Former_check, pg_Former_check⟩
theorem gf_Desk_42_11 : GF "LibraryDesk" "LibraryDesk" "LibraryDesk" 42 2 4 11 := ⟨RX1, TX1, 21, 3, by decide, clr_11, in_X1, by decide, rfl, Or.inl q1069, rfl⟩
theorem hdd_Out_clear_ : yX2_clear.cls ≠ "java/lang/invoke/MethodHandle" ∧ yX2_clear.cls ≠ "java/lang/invoke/VarHandle" ∧ (parseMethodDescriptor yX2_clear.desc).map (fun d => d.parameters.length) = some 0 := by decide +kernel
theorem mok_Out_clear : MOK m_Out_clear := ⟨by decide +kernel, by decide, cd_Out_clear, pg_Out_clear⟩
theorem hdd_Desk_fill_ : yX1_fill.cls ≠ "java/lang/invoke/MethodHandle" ∧ yX1_fill.cls ≠ "java/lang/invoke/VarHandle" ∧ (parseMethodDescriptor yX1_fill.desc).map (fun d => d.parameters.length) = some 2 := by decide +kernel
theorem mok_Desk_fill : MOK m_Desk_fill := ⟨by decide +kernel, by decide, cd_Desk_fill, pg_Desk_fill⟩
theorem hdd_Out_set_ : yX2_set.cls ≠ "java/lang/invoke/MethodHandle" ∧ yX2_set.cls ≠ "java/lang/invoke/VarHandle" ∧ (parseMethodDescriptor yX2_set.desc).map (fun d => d.parameters.length) = some 1 := by decide +kernel
theorem mok_Out_set : MOK m_Out_set := ⟨by decide +kernel, by decide, cd_Out_set, pg_Out_set⟩
theorem gf_Desk_533_12 : GF "LibraryDesk" "LibraryDesk$Out" "LibraryDesk" 533 0 23 12 := ⟨RX2, TX2, 2, 1, by decide, clr_12, in_X2, by decide, rfl, Or.inr nw588, rfl⟩
theorem pf_Desk_536_16 {m : Nat} : PF m "LibraryDesk" "LibraryDesk$Forme\x72" "LibraryDesk" 536 0 54 .int 16 := ⟨RX6, TX6, 13, 2, tyX6, by decide, clr_16, in_X6, tyX6_ok, nmX6, by decide, rfl, nd_16, Or.inr (Or.inl ⟨nw722, rfl⟩), rfl, by decide +kernel⟩
theorem gf_Desk_536_16 : GF "LibraryDesk" "LibraryDesk$Forme\x72" "LibraryDesk" 536 0 54 16 := ⟨RX6, TX6, 13, 2, by decide, clr_16, in_X6, by decide, rfl, Or.inr nw722, rfl⟩
theorem hdd_Out_add_ : yX2_add.cls ≠ "java/lang/invoke/MethodHandle" ∧ yX2_add.cls ≠ "java/lang/invoke/VarHandle" ∧ (parseMethodDescriptor yX2_add.desc).map (fun d => d.parameters.length) = some 1 := by decide +kernel
theorem mok_Out_add : MOK m_Out_add := ⟨by decide +kernel, by decide, cd_Out_add, pg_Out_add⟩
theorem hdd_Former_field_ : yX6_field.cls ≠ "java/lang/invoke/MethodHandle" ∧ yX6_field.cls ≠ "java/lang/invoke/VarHandle" ∧ (parseMethodDescriptor yX6_field.desc).map (fun d => d.parameters.length) = some 0 := by decide +kernel
theorem mok_Former_field : MOK m_Former_field := ⟨by decide +kernel, by decide, cd_Former_field, pg_Former_field⟩
theorem gf_Desk_545_16 : GF "LibraryDesk" "LibraryDesk$Forme\x72" "LibraryDesk" 545 0 62 16 := ⟨RX6, TX6, 13, 10, by decide, clr_16, in_X6, by decide, rfl, Or.inr nw731, rfl⟩
theorem hdd_Former_text_ : yX6_text.cls ≠ "java/lang/invoke/MethodHandle" ∧ yX6_text.cls ≠ "java/lang/invoke/VarHandle" ∧ (parseMethodDescriptor yX6_text.desc).map (fun d => d.parameters.length) = some 2 := by decide +kernel
theorem mok_Former_text : MOK m_Former_text := ⟨by decide +kernel, by decide, cd_Former_text, pg_Former_text⟩
theorem hdd_Former_value_ : yX6_value.cls ≠ "java/lang/invoke/MethodHandle" ∧ yX6_value.cls ≠ "java/lang/invoke/VarHandle" ∧ (parseMethodDescriptor yX6_value.desc).map (fun d => d.parameters.length) = some 2 := by decide +kernel
theorem mok_Former_value : MOK m_Former_value := ⟨by decide +kernel, by decide, cd_Former_value, pg_Former_value⟩
theorem hdd_Big_set_ : yX8_set.cls ≠ "java/lang/invoke/MethodHandle" ∧ yX8_set.cls ≠ "java/lang/invoke/VarHandle" ∧ (parseMethodDescriptor yX8_set.desc).map (fun d => d.parameters.length) = some 1 := by decide +kernel
theorem mok_Big_set : MOK m_Big_set := ⟨by decide +kernel, by decide, cd_Big_set, pg_Big_set⟩
theorem hdd_Big_sign_ : yX8_sign.cls ≠ "java/lang/invoke/MethodHandle" ∧ yX8_sign.cls ≠ "java/lang/invoke/VarHandle" ∧ (parseMethodDescriptor yX8_sign.desc).map (fun d => d.parameters.length) = some 0 := by decide +kernel
theorem mok_Big_sign : MOK m_Big_sign := ⟨by decide +kernel, by decide, cd_Big_sign, pg_Big_sign⟩
theorem hdd_Reckoner_whole_ : yX7_whole.cls ≠ "java/lang/invoke/MethodHandle" ∧ yX7_whole.cls ≠ "java/lang/invoke/VarHandle" ∧ (parseMethodDescriptor yX7_whole.desc).map (fun d => d.parameters.length) = some 4 := by decide +kernel
theorem mok_Reckoner_whole : MOK m_Reckoner_whole := ⟨by decide +kernel, by decide, cd_Reckoner_whole, pg_Reckoner_whole⟩
theorem ef_Desk_22 : EXF "LibraryDesk" "java/lang/ArithmeticException" ["java/lang/RuntimeException", "java/lang/Exception"] 22 24 67 := ⟨by decide, rfl, ⟨TEx, rfl⟩, by decide, by decide +kernel, by decide +kernel, q3649, q567, List.forall_mem_append.mpr ⟨List.forall_mem_append.mpr ⟨thr_A, List.forall_mem_cons.mpr ⟨fun _ => Or.inl q3651, List.forall_mem_cons.mpr ⟨fun _ => Or.inl q3652, List.forall_mem_cons.mpr ⟨fun _ => Or.inl q3653, List.forall_mem_cons.mpr ⟨fun _ => Or.inl q1261, List.forall_mem_cons.mpr ⟨fun _ => Or.inr ⟨nw1220, rfl⟩, List.forall_mem_cons.mpr ⟨fun _ => Or.inl q1261, List.forall_mem_cons.mpr ⟨fun _ => Or.inl q1262, List.forall_mem_cons.mpr ⟨fun _ => Or.inl q1263, List.forall_mem_cons.mpr ⟨fun _ => Or.inl q1264, List.forall_mem_cons.mpr ⟨fun _ => Or.inr ⟨nw1222, rfl⟩, List.forall_mem_cons.mpr ⟨fun _ => Or.inl q1264, List.forall_mem_cons.mpr ⟨fun _ => Or.inl q1265, List.forall_mem_cons.mpr ⟨fun _ => Or.inl q1266, List.forall_mem_cons.mpr ⟨fun _ => Or.inl q1234, List.forall_mem_cons.mpr ⟨fun _ => Or.inr ⟨nw1224, rfl⟩, fun _ h => absurd h List.not_mem_nil⟩⟩⟩⟩⟩⟩⟩⟩⟩⟩⟩⟩⟩⟩⟩⟩, List.forall_mem_cons.mpr ⟨fun _ => Or.inl q3650, List.forall_mem_cons.mpr ⟨fun _ => Or.inl q3593, List.forall_mem_cons.mpr ⟨fun _ => Or.inr ⟨nw3604, rfl⟩, List.forall_mem_cons.mpr ⟨fun _ => Or.inl q3605, List.forall_mem_cons.mpr ⟨fun _ => Or.inl q1184, List.forall_mem_cons.mpr ⟨fun _ => Or.inl q3599, List.forall_mem_cons.mpr ⟨fun _ => Or.inl q3600, List.forall_mem_cons.mpr ⟨fun _ => Or.inl q3602, List.forall_mem_cons.mpr ⟨fun _ => Or.inl q3598, List.forall_mem_cons.mpr ⟨fun h => absurd h (by decide), List.forall_mem_cons.mpr ⟨fun h => absurd h (by decide), List.forall_mem_cons.mpr ⟨fun _ => Or.inl q1232, List.forall_mem_cons.mpr ⟨fun _ => Or.inl q1231, List.forall_mem_cons.mpr ⟨fun _ => Or.inl q3597, fun _ h => absurd h List.not_mem_nil⟩⟩⟩⟩⟩⟩⟩⟩⟩⟩⟩⟩⟩⟩⟩⟩
theorem gf_Desk_102_11 : GF "LibraryDesk" "LibraryDesk" "LibraryDesk" 102 2 16 11 := ⟨RX1, TX1, 21, 15, by decide, clr_11, in_X1, by decide, rfl, Or.inl q1081, rfl⟩
theorem hdd_Decimals_reckon_ : yX9_reckon.cls ≠ "java/lang/invoke/MethodHandle" ∧ yX9_reckon.cls ≠ "java/lang/invoke/VarHandle" ∧ (parseMethodDescriptor yX9_reckon.desc).map (fun d => d.parameters.length) = some 5 := by decide +kernel
theorem mok_Decimals_reckon : MOK m_Decimals_reckon := ⟨by decide +kernel, by decide, cd_Decimals_reckon, pg_Decimals_reckon⟩
theorem hdd_Desk_bitsOf_ : yX1_bitsOf.cls ≠ "java/lang/invoke/MethodHandle" ∧ yX1_bitsOf.cls ≠ "java/lang/invoke/VarHandle" ∧ (parseMethodDescriptor yX1_bitsOf.desc).map (fun d => d.parameters.length) = some 1 := by decide +kernel
theorem mok_Desk_bitsOf : MOK m_Desk_bitsOf := ⟨by decide +kernel, by decide, cd_Desk_bitsOf, pg_Desk_bitsOf⟩
theorem hdd_Big_isZero_ : yX8_isZero.cls ≠ "java/lang/invoke/MethodHandle" ∧ yX8_isZero.cls ≠ "java/lang/invoke/VarHandle" ∧ (parseMethodDescriptor yX8_isZero.desc).map (fun d => d.parameters.length) = some 0 := by decide +kernel
theorem mok_Big_isZero : MOK m_Big_isZero := ⟨by decide +kernel, by decide, cd_Big_isZero, pg_Big_isZero⟩
theorem hdd_Big_endless_ : yX8_endless.cls ≠ "java/lang/invoke/MethodHandle" ∧ yX8_endless.cls ≠ "java/lang/invoke/VarHandle" ∧ (parseMethodDescriptor yX8_endless.desc).map (fun d => d.parameters.length) = some 2 := by decide +kernel
theorem mok_Big_endless : MOK m_Big_endless := ⟨by decide +kernel, by decide, cd_Big_endless, pg_Big_endless⟩
theorem hdd_Reckoner_digits_ : yX7_digits.cls ≠ "java/lang/invoke/MethodHandle" ∧ yX7_digits.cls ≠ "java/lang/invoke/VarHandle" ∧ (parseMethodDescriptor yX7_digits.desc).map (fun d => d.parameters.length) = some 1 := by decide +kernel
theorem mok_Reckoner_digits : MOK m_Reckoner_digits := ⟨by decide +kernel, by decide, cd_Reckoner_digits, pg_Reckoner_digits⟩
theorem hdd_Desk_zeros_ : yX1_zeros.cls ≠ "java/lang/invoke/MethodHandle" ∧ yX1_zeros.cls ≠ "java/lang/invoke/VarHandle" ∧ (parseMethodDescriptor yX1_zeros.desc).map (fun d => d.parameters.length) = some 1 := by decide +kernel
theorem mok_Desk_zeros : MOK m_Desk_zeros := ⟨by decide +kernel, by decide, cd_Desk_zeros, pg_Desk_zeros⟩
theorem hdd_Desk_isPrime_ : yX1_isPrime.cls ≠ "java/lang/invoke/MethodHandle" ∧ yX1_isPrime.cls ≠ "java/lang/invoke/VarHandle" ∧ (parseMethodDescriptor yX1_isPrime.desc).map (fun d => d.parameters.length) = some 1 := by decide +kernel
theorem mok_Desk_isPrime : MOK m_Desk_isPrime := ⟨by decide +kernel, by decide, cd_Desk_isPrime, pg_Desk_isPrime⟩
theorem gf_Desk_267_42 : GF "LibraryDesk" "LibraryDesk$DecimalThing" "LibraryDesk" 267 0 345 42 := ⟨RX32, TX32, 4, 3, by decide, clr_42, in_X32, by decide, rfl, Or.inr nw1769, rfl⟩
theorem hdd_Big_length_ : yX8_length.cls ≠ "java/lang/invoke/MethodHandle" ∧ yX8_length.cls ≠ "java/lang/invoke/VarHandle" ∧ (parseMethodDescriptor yX8_length.desc).map (fun d => d.parameters.length) = some 0 := by decide +kernel
theorem mok_Big_length : MOK m_Big_length := ⟨by decide +kernel, by decide, cd_Big_length, pg_Big_length⟩
theorem gf_Desk_575_18 : GF "LibraryDesk" "LibraryDesk$Big" "LibraryDesk" 575 0 76 18 := ⟨RX8, TX8, 3, 2, by decide, clr_18, in_X8, by decide, rfl, Or.inr nw783, rfl⟩
theorem hdd_Big_bit_ : yX8_bit.cls ≠ "java/lang/invoke/MethodHandle" ∧ yX8_bit.cls ≠ "java/lang/invoke/VarHandle" ∧ (parseMethodDescriptor yX8_bit.desc).map (fun d => d.parameters.length) = some 1 := by decide +kernel
theorem mok_Big_bit : MOK m_Big_bit := ⟨by decide +kernel, by decide, cd_Big_bit, pg_Big_bit⟩
theorem gf_Desk_584_18 : GF "LibraryDesk" "LibraryDesk$Big" "LibraryDesk" 584 0 75 18 := ⟨RX8, TX8, 3, 1, by decide, clr_18, in_X8, by decide, rfl, Or.inr nw778, rfl⟩
theorem gf_Desk_585_18 : GF "LibraryDesk" "LibraryDesk$Big" "LibraryDesk" 585 2 74 18 := ⟨RX8, TX8, 3, 0, by decide, clr_18, in_X8, by decide, rfl, Or.inr nw775, rfl⟩
theorem hdd_Big_compare_ : yX8_compare.cls ≠ "java/lang/invoke/MethodHandle" ∧ yX8_compare.cls ≠ "java/lang/invoke/VarHandle" ∧ (parseMethodDescriptor yX8_compare.desc).map (fun d => d.parameters.length) = some 2 := by decide +kernel
theorem mok_Big_compare : MOK m_Big_compare := ⟨by decide +kernel, by decide, cd_Big_compare, pg_Big_compare⟩
theorem hdd_Decimals_compare_ : yX9_compare.cls ≠ "java/lang/invoke/MethodHandle" ∧ yX9_compare.cls ≠ "java/lang/invoke/VarHandle" ∧ (parseMethodDescriptor yX9_compare.desc).map (fun d => d.parameters.length) = some 2 := by decide +kernel
theorem mok_Decimals_compare : MOK m_Decimals_compare := ⟨by decide +kernel, by decide, cd_Decimals_compare, pg_Decimals_compare⟩
theorem gf_Desk_109_11 : GF "LibraryDesk" "LibraryDesk" "LibraryDesk" 109 2 17 11 := ⟨RX1, TX1, 21, 16, by decide, clr_11, in_X1, by decide, rfl, Or.inl q1082, rfl⟩
theorem hdd_Numerals_readWhole_ : yX10_readWhole.cls ≠ "java/lang/invoke/MethodHandle" ∧ yX10_readWhole.cls ≠ "java/lang/invoke/VarHandle" ∧ (parseMethodDescriptor yX10_readWhole.desc).map (fun d => d.parameters.length) = some 3 := by decide +kernel
theorem mok_Numerals_readWhole : MOK m_Numerals_readWhole := ⟨by decide +kernel, by decide, cd_Numerals_readWhole, pg_Numerals_readWhole⟩
theorem hdd_Numerals_readDecimal_ : yX10_readDecimal.cls ≠ "java/lang/invoke/MethodHandle" ∧ yX10_readDecimal.cls ≠ "java/lang/invoke/VarHandle" ∧ (parseMethodDescriptor yX10_readDecimal.desc).map (fun d => d.parameters.length) = some 2 := by decide +kernel
theorem mok_Numerals_readDecimal : MOK m_Numerals_readDecimal := ⟨by decide +kernel, by decide, cd_Numerals_readDecimal, pg_Numerals_readDecimal⟩
theorem hdd_Reckoner_check_ : yX7_check.cls ≠ "java/lang/invoke/MethodHandle" ∧ yX7_check.cls ≠ "java/lang/invoke/VarHandle" ∧ (parseMethodDescriptor yX7_check.desc).map (fun d => d.parameters.length) = some 1 := by decide +kernel
theorem mok_Reckoner_check : MOK m_Reckoner_check := ⟨by decide +kernel, by decide, cd_Reckoner_check, pg_Reckoner_check⟩
theorem gf_Desk_617_20 : GF "LibraryDesk" "LibraryDesk$Numerals" "LibraryDesk" 617 2 85 20 := ⟨RX10, TX10, 3, 1, by decide, clr_20, in_X10, by decide, rfl, Or.inr nw861, rfl⟩
theorem hdd_Big_set_2_ : yX8_set_2.cls ≠ "java/lang/invoke/MethodHandle" ∧ yX8_set_2.cls ≠ "java/lang/invoke/VarHandle" ∧ (parseMethodDescriptor yX8_set_2.desc).map (fun d => d.parameters.length) = some 1 := by decide +kernel
theorem mok_Big_set_2 : MOK m_Big_set_2 := ⟨by decide +kernel, by decide, cd_Big_set_2, pg_Big_set_2⟩
theorem gf_Desk_625_20 : GF "LibraryDesk" "LibraryDesk$Numerals" "LibraryDesk" 625 0 86 20 := ⟨RX10, TX10, 3, 2, by decide, clr_20, in_X10, by decide, rfl, Or.inr nw863, rfl⟩
theorem hdd_Numerals_showWhole_ : yX10_showWhole.cls ≠ "java/lang/invoke/MethodHandle" ∧ yX10_showWhole.cls ≠ "java/lang/invoke/VarHandle" ∧ (parseMethodDescriptor yX10_showWhole.desc).map (fun d => d.parameters.length) = some 3 := by decide +kernel
theorem mok_Numerals_showWhole : MOK m_Numerals_showWhole := ⟨by decide +kernel, by decide, cd_Numerals_showWhole, pg_Numerals_showWhole⟩
theorem hdd_Numerals_showDecimal_ : yX10_showDecimal.cls ≠ "java/lang/invoke/MethodHandle" ∧ yX10_showDecimal.cls ≠ "java/lang/invoke/VarHandle" ∧ (parseMethodDescriptor yX10_showDecimal.desc).map (fun d => d.parameters.length) = some 2 := by decide +kernel
theorem mok_Numerals_showDecimal : MOK m_Numerals_showDecimal := ⟨by decide +kernel, by decide, cd_Numerals_showDecimal, pg_Numerals_showDecimal⟩
theorem gf_Desk_116_11 : GF "LibraryDesk" "LibraryDesk" "LibraryDesk" 116 2 18 11 := ⟨RX1, TX1, 21, 17, by decide, clr_11, in_X1, by decide, rfl, Or.inl q1083, rfl⟩
theorem hdd_Streamer_read_ : yX11_read.cls ≠ "java/lang/invoke/MethodHandle" ∧ yX11_read.cls ≠ "java/lang/invoke/VarHandle" ∧ (parseMethodDescriptor yX11_read.desc).map (fun d => d.parameters.length) = some 2 := by decide +kernel
theorem mok_Streamer_read : MOK m_Streamer_read := ⟨by decide +kernel, by decide, cd_Streamer_read, pg_Streamer_read⟩
theorem nd_21 : va_nd ((flT 21).map (·.2)) = true := by decide +kernel
theorem pf_Desk_636_21 {m : Nat} : PF m "LibraryDesk" "LibraryDesk$Streame\x72" "LibraryDesk" 636 2 103 (.object "LibraryDesk$Places") 21 := ⟨RX11, TX11, 28, 16, tyX11, by decide, clr_21, in_X11, tyX11_ok, nmX11, by decide, rfl, nd_21, Or.inr (Or.inl ⟨nw922, rfl⟩), rfl, by decide +kernel⟩
theorem pf_Desk_640_21 {m : Nat} : PF m "LibraryDesk" "LibraryDesk$Streame\x72" "LibraryDesk" 640 2 104 (.object "LibraryDesk$Maps") 21 := ⟨RX11, TX11, 28, 17, tyX11, by decide, clr_21, in_X11, tyX11_ok, nmX11, by decide, rfl, nd_21, Or.inr (Or.inl ⟨nw924, rfl⟩), rfl, by decide +kernel⟩
theorem gf_Desk_644_21 : GF "LibraryDesk" "LibraryDesk$Streame\x72" "LibraryDesk" 644 0 88 21 := ⟨RX11, TX11, 28, 1, by decide, clr_21, in_X11, by decide, rfl, Or.inr nw902, rfl⟩
theorem gf_Desk_647_21 : GF "LibraryDesk" "LibraryDesk$Streame\x72" "LibraryDesk" 647 0 89 21 := ⟨RX11, TX11, 28, 2, by decide, clr_21, in_X11, by decide, rfl, Or.inr nw904, rfl⟩
theorem gf_Desk_636_21 : GF "LibraryDesk" "LibraryDesk$Streame\x72" "LibraryDesk" 636 2 103 21 := ⟨RX11, TX11, 28, 16, by decide, clr_21, in_X11, by decide, rfl, Or.inr nw922, rfl⟩
theorem gf_Desk_650_21 : GF "LibraryDesk" "LibraryDesk$Streame\x72" "LibraryDesk" 650 0 97 21 := ⟨RX11, TX11, 28, 10, by decide, clr_21, in_X11, by decide, rfl, Or.inr nw913, rfl⟩
theorem hdd_Streamer_begin_ : yX11_begin.cls ≠ "java/lang/invoke/MethodHandle" ∧ yX11_begin.cls ≠ "java/lang/invoke/VarHandle" ∧ (parseMethodDescriptor yX11_begin.desc).map (fun d => d.parameters.length) = some 0 := by decide +kernel
theorem mok_Streamer_begin : MOK m_Streamer_begin := ⟨by decide +kernel, by decide, cd_Streamer_begin, pg_Streamer_begin⟩
theorem hdd_Desk_toList_ : yX1_toList.cls ≠ "java/lang/invoke/MethodHandle" ∧ yX1_toList.cls ≠ "java/lang/invoke/VarHandle" ∧ (parseMethodDescriptor yX1_toList.desc).map (fun d => d.parameters.length) = some 0 := by decide +kernel
theorem mok_Desk_toList : MOK m_Desk_toList := ⟨by decide +kernel, by decide, cd_Desk_toList, pg_Desk_toList⟩
theorem hdd_Desk_toGroups_ : yX1_toGroups.cls ≠ "java/lang/invoke/MethodHandle" ∧ yX1_toGroups.cls ≠ "java/lang/invoke/VarHandle" ∧ (parseMethodDescriptor yX1_toGroups.desc).map (fun d => d.parameters.length) = some 0 := by decide +kernel
theorem mok_Desk_toGroups : MOK m_Desk_toGroups := ⟨by decide +kernel, by decide, cd_Desk_toGroups, pg_Desk_toGroups⟩
theorem hdd_Streamer_run_ : yX11_run.cls ≠ "java/lang/invoke/MethodHandle" ∧ yX11_run.cls ≠ "java/lang/invoke/VarHandle" ∧ (parseMethodDescriptor yX11_run.desc).map (fun d => d.parameters.length) = some 0 := by decide +kernel
theorem mok_Streamer_run : MOK m_Streamer_run := ⟨by decide +kernel, by decide, cd_Streamer_run, pg_Streamer_run⟩
theorem gf_Desk_663_21 : GF "LibraryDesk" "LibraryDesk$Streame\x72" "LibraryDesk" 663 0 102 21 := ⟨RX11, TX11, 28, 15, by decide, clr_21, in_X11, by decide, rfl, Or.inr nw920, rfl⟩
theorem pf_Desk_666_11 {m : Nat} : PF m "LibraryDesk" "LibraryDesk" "LibraryDesk" 666 1 6 .long 11 := ⟨RX1, TX1, 21, 5, tyX1, by decide, clr_11, in_X1, tyX1_ok, nmX1, by decide, rfl, nd_11, Or.inl ⟨q1071, rfl⟩, rfl, by decide +kernel⟩
theorem hdd_Streamer_fill_ : yX11_fill.cls ≠ "java/lang/invoke/MethodHandle" ∧ yX11_fill.cls ≠ "java/lang/invoke/VarHandle" ∧ (parseMethodDescriptor yX11_fill.desc).map (fun d => d.parameters.length) = some 1 := by decide +kernel
theorem mok_Streamer_fill : MOK m_Streamer_fill := ⟨by decide +kernel, by decide, cd_Streamer_fill, pg_Streamer_fill⟩
theorem hdd_Rows_open_ : yX18_open.cls ≠ "java/lang/invoke/MethodHandle" ∧ yX18_open.cls ≠ "java/lang/invoke/VarHandle" ∧ (parseMethodDescriptor yX18_open.desc).map (fun d => d.parameters.length) = some 2 := by decide +kernel
theorem mok_Rows_open : MOK m_Rows_open := ⟨by decide +kernel, by decide, cd_Rows_open, pg_Rows_open⟩
theorem hdx_LibraryDesk_Places_put__II_V_0 : ("LibraryDesk$Places" : String) ≠ "java/lang/invoke/MethodHandle" ∧ ("LibraryDesk$Places" : String) ≠ "java/lang/invoke/VarHandle" ∧ (parseMethodDescriptor "(II)V").map (fun d => d.parameters.length) = some 2 := by decide +kernel
theorem mok_Places_put : MOK m_Places_put := ⟨by decide +kernel, by decide, cd_Places_put, pg_Places_put⟩
theorem gf_Desk_679_21 : GF "LibraryDesk" "LibraryDesk$Streame\x72" "LibraryDesk" 679 0 108 21 := ⟨RX11, TX11, 28, 21, by decide, clr_21, in_X11, by decide, rfl, Or.inr nw929, rfl⟩
theorem hdd_Streamer_more_ : yX11_more.cls ≠ "java/lang/invoke/MethodHandle" ∧ yX11_more.cls ≠ "java/lang/invoke/VarHandle" ∧ (parseMethodDescriptor yX11_more.desc).map (fun d => d.parameters.length) = some 0 := by decide +kernel
theorem mok_Streamer_more : MOK m_Streamer_more := ⟨by decide +kernel, by decide, cd_Streamer_more, pg_Streamer_more⟩
theorem gf_Desk_682_21 : GF "LibraryDesk" "LibraryDesk$Streame\x72" "LibraryDesk" 682 0 99 21 := ⟨RX11, TX11, 28, 12, by decide, clr_21, in_X11, by decide, rfl, Or.inr nw916, rfl⟩
theorem hdd_Desk_mod_ : yX1_mod.cls ≠ "java/lang/invoke/MethodHandle" ∧ yX1_mod.cls ≠ "java/lang/invoke/VarHandle" ∧ (parseMethodDescriptor yX1_mod.desc).map (fun d => d.parameters.length) = some 2 := by decide +kernel
theorem mok_Desk_mod : MOK m_Desk_mod := ⟨by decide +kernel, by decide, cd_Desk_mod, pg_Desk_mod⟩
theorem hdd_HashThing_size_ : yX21_size.cls ≠ "java/lang/invoke/MethodHandle" ∧ yX21_size.cls ≠ "java/lang/invoke/VarHandle" ∧ (parseMethodDescriptor yX21_size.desc).map (fun d => d.parameters.length) = some 0 := by decide +kernel
theorem hdd_HashThing_find_ : yX21_find.cls ≠ "java/lang/invoke/MethodHandle" ∧ yX21_find.cls ≠ "java/lang/invoke/VarHandle" ∧ (parseMethodDescriptor yX21_find.desc).map (fun d => d.parameters.length) = some 1 := by decide +kernel
theorem hdd_Desk_sound_ : yX1_sound.cls ≠ "java/lang/invoke/MethodHandle" ∧ yX1_sound.cls ≠ "java/lang/invoke/VarHandle" ∧ (parseMethodDescriptor yX1_sound.desc).map (fun d => d.parameters.length) = some 1 := by decide +kernel
theorem mok_Desk_sound : MOK m_Desk_sound := ⟨by decide +kernel, by decide, cd_Desk_sound, pg_Desk_sound⟩
theorem hdd_Threads_thread_ : yX13_thread.cls ≠ "java/lang/invoke/MethodHandle" ∧ yX13_thread.cls ≠ "java/lang/invoke/VarHandle" ∧ (parseMethodDescriptor yX13_thread.desc).map (fun d => d.parameters.length) = some 2 := by decide +kernel
theorem mok_Threads_thread : MOK m_Threads_thread := ⟨by decide +kernel, by decide, cd_Threads_thread, pg_Threads_thread⟩
theorem hdd_Threads_step_ : yX13_step.cls ≠ "java/lang/invoke/MethodHandle" ∧ yX13_step.cls ≠ "java/lang/invoke/VarHandle" ∧ (parseMethodDescriptor yX13_step.desc).map (fun d => d.parameters.length) = some 1 := by decide +kernel
theorem mok_Threads_step : MOK m_Threads_step := ⟨by decide +kernel, by decide, cd_Threads_step, pg_Threads_step⟩
theorem hdd_Threads_run_ : yX13_run.cls ≠ "java/lang/invoke/MethodHandle" ∧ yX13_run.cls ≠ "java/lang/invoke/VarHandle" ∧ (parseMethodDescriptor yX13_run.desc).map (fun d => d.parameters.length) = some 2 := by decide +kernel
theorem mok_Threads_run : MOK m_Threads_run := ⟨by decide +kernel, by decide, cd_Threads_run, pg_Threads_run⟩
theorem hdd_Threads_tick_ : yX13_tick.cls ≠ "java/lang/invoke/MethodHandle" ∧ yX13_tick.cls ≠ "java/lang/invoke/VarHandle" ∧ (parseMethodDescriptor yX13_tick.desc).map (fun d => d.parameters.length) = some 1 := by decide +kernel
theorem mok_Threads_tick : MOK m_Threads_tick := ⟨by decide +kernel, by decide, cd_Threads_tick, pg_Threads_tick⟩
theorem hdd_Threads_interrupt_ : yX13_interrupt.cls ≠ "java/lang/invoke/MethodHandle" ∧ yX13_interrupt.cls ≠ "java/lang/invoke/VarHandle" ∧ (parseMethodDescriptor yX13_interrupt.desc).map (fun d => d.parameters.length) = some 1 := by decide +kernel
theorem mok_Threads_interrupt : MOK m_Threads_interrupt := ⟨by decide +kernel, by decide, cd_Threads_interrupt, pg_Threads_interrupt⟩
theorem hdd_Threads_look_ : yX13_look.cls ≠ "java/lang/invoke/MethodHandle" ∧ yX13_look.cls ≠ "java/lang/invoke/VarHandle" ∧ (parseMethodDescriptor yX13_look.desc).map (fun d => d.parameters.length) = some 2 := by decide +kernel
theorem mok_Threads_look : MOK m_Threads_look := ⟨by decide +kernel, by decide, cd_Threads_look, pg_Threads_look⟩
theorem hdd_Threads_sync_ : yX13_sync.cls ≠ "java/lang/invoke/MethodHandle" ∧ yX13_sync.cls ≠ "java/lang/invoke/VarHandle" ∧ (parseMethodDescriptor yX13_sync.desc).map (fun d => d.parameters.length) = some 2 := by decide +kernel
theorem mok_Threads_sync : MOK m_Threads_sync := ⟨by decide +kernel, by decide, cd_Threads_sync, pg_Threads_sync⟩
theorem hdd_Days_ofMonth_ : yX41_ofMonth.cls ≠ "java/lang/invoke/MethodHandle" ∧ yX41_ofMonth.cls ≠ "java/lang/invoke/VarHandle" ∧ (parseMethodDescriptor yX41_ofMonth.desc).map (fun d => d.parameters.length) = some 2 := by decide +kernel
theorem mok_Days_ofMonth : MOK m_Days_ofMonth := ⟨by decide +kernel, by decide, cd_Days_ofMonth, pg_Days_ofMonth⟩
theorem hdd_Days_day_ : yX41_day.cls ≠ "java/lang/invoke/MethodHandle" ∧ yX41_day.cls ≠ "java/lang/invoke/VarHandle" ∧ (parseMethodDescriptor yX41_day.desc).map (fun d => d.parameters.length) = some 3 := by decide +kernel
theorem mok_Days_day : MOK m_Days_day := ⟨by decide +kernel, by decide, cd_Days_day, pg_Days_day⟩
theorem hdd_Days_isDay_ : yX41_isDay.cls ≠ "java/lang/invoke/MethodHandle" ∧ yX41_isDay.cls ≠ "java/lang/invoke/VarHandle" ∧ (parseMethodDescriptor yX41_isDay.desc).map (fun d => d.parameters.length) = some 1 := by decide +kernel
theorem mok_Days_isDay : MOK m_Days_isDay := ⟨by decide +kernel, by decide, cd_Days_isDay, pg_Days_isDay⟩
theorem hdd_Days_part_ : yX41_part.cls ≠ "java/lang/invoke/MethodHandle" ∧ yX41_part.cls ≠ "java/lang/invoke/VarHandle" ∧ (parseMethodDescriptor yX41_part.desc).map (fun d => d.parameters.length) = some 2 := by decide +kernel
theorem mok_Days_part : MOK m_Days_part := ⟨by decide +kernel, by decide, cd_Days_part, pg_Days_part⟩
theorem hdd_Days_plus_ : yX41_plus.cls ≠ "java/lang/invoke/MethodHandle" ∧ yX41_plus.cls ≠ "java/lang/invoke/VarHandle" ∧ (parseMethodDescriptor yX41_plus.desc).map (fun d => d.parameters.length) = some 3 := by decide +kernel
theorem mok_Days_plus : MOK m_Days_plus := ⟨by decide +kernel, by decide, cd_Days_plus, pg_Days_plus⟩
theorem hdd_Days_between_ : yX41_between.cls ≠ "java/lang/invoke/MethodHandle" ∧ yX41_between.cls ≠ "java/lang/invoke/VarHandle" ∧ (parseMethodDescriptor yX41_between.desc).map (fun d => d.parameters.length) = some 3 := by decide +kernel
theorem mok_Days_between : MOK m_Days_between := ⟨by decide +kernel, by decide, cd_Days_between, pg_Days_between⟩
theorem hdd_Out_word_ : yX2_word.cls ≠ "java/lang/invoke/MethodHandle" ∧ yX2_word.cls ≠ "java/lang/invoke/VarHandle" ∧ (parseMethodDescriptor yX2_word.desc).map (fun d => d.parameters.length) = some 1 := by decide +kernel
theorem mok_Out_word : MOK m_Out_word := ⟨by decide +kernel, by decide, cd_Out_word, pg_Out_word⟩
theorem gf_Desk_45_11 : GF "LibraryDesk" "LibraryDesk" "LibraryDesk" 45 0 5 11 := ⟨RX1, TX1, 21, 4, by decide, clr_11, in_X1, by decide, rfl, Or.inl q1070, rfl⟩
theorem gf_Desk_743_23 : GF "LibraryDesk" "LibraryDesk$Threads" "LibraryDesk" 743 1 140 23 := ⟨RX13, TX13, 21, 20, by decide, clr_23, in_X13, by decide, rfl, Or.inr nw1022, rfl⟩
theorem gf_Desk_666_11 : GF "LibraryDesk" "LibraryDesk" "LibraryDesk" 666 1 6 11 := ⟨RX1, TX1, 21, 5, by decide, clr_11, in_X1, by decide, rfl, Or.inl q1071, rfl⟩
theorem nd_12 : va_nd ((flT 12).map (·.2)) = true := by decide +kernel
theorem pf_Out_init_10_12 : PF m_Out_init "LibraryDesk$Out" "LibraryDesk$Out" "LibraryDesk" 10 2 22 (.array .byte) 12 := ⟨RX2, TX2, 2, 0, tyX2, by decide, clr_12, in_X2, tyX2_ok, nmX2, by decide, rfl, nd_12, Or.inr (Or.inr ⟨q585, rfl, rfl, rfl⟩), rfl, by decide +kernel⟩
theorem pf_Out_16_12 {m : Nat} : PF m "LibraryDesk$Out" "LibraryDesk$Out" "LibraryDesk" 16 0 23 .int 12 := ⟨RX2, TX2, 2, 1, tyX2, by decide, clr_12, in_X2, tyX2_ok, nmX2, by decide, rfl, nd_12, Or.inl ⟨q586, rfl⟩, rfl, by decide +kernel⟩
theorem gf_Out_16_12 : GF "LibraryDesk$Out" "LibraryDesk$Out" "LibraryDesk" 16 0 23 12 := ⟨RX2, TX2, 2, 1, by decide, clr_12, in_X2, by decide, rfl, Or.inl q586, rfl⟩
theorem gf_Out_10_12 : GF "LibraryDesk$Out" "LibraryDesk$Out" "LibraryDesk" 10 2 22 12 := ⟨RX2, TX2, 2, 0, by decide, clr_12, in_X2, by decide, rfl, Or.inl q585, rfl⟩
theorem nd_13 : va_nd ((flT 13).map (·.2)) = true := by decide +kernel
theorem pf_ListWork_init_9_13 : PF m_ListWork_init "LibraryDesk$ListWork" "LibraryDesk$ListWork" "LibraryDesk" 9 2 24 (.array .int) 13 := ⟨RX3, TX3, 2, 0, tyX3, by decide, clr_13, in_X3, tyX3_ok, nmX3, by decide, rfl, nd_13, Or.inr (Or.inr ⟨q603, rfl, rfl, rfl⟩), rfl, by decide +kernel⟩
theorem pf_ListWork_init_15_13 : PF m_ListWork_init "LibraryDesk$ListWork" "LibraryDesk$ListWork" "LibraryDesk" 15 2 25 (.array .int) 13 := ⟨RX3, TX3, 2, 1, tyX3, by decide, clr_13, in_X3, tyX3_ok, nmX3, by decide, rfl, nd_13, Or.inr (Or.inr ⟨q604, rfl, rfl, rfl⟩), rfl, by decide +kernel⟩
theorem hdx_LibraryDesk_Places_insert__II_V_0 : ("LibraryDesk$Places" : String) ≠ "java/lang/invoke/MethodHandle" ∧ ("LibraryDesk$Places" : String) ≠ "java/lang/invoke/VarHandle" ∧ (parseMethodDescriptor "(II)V").map (fun d => d.parameters.length) = some 2 := by decide +kernel
theorem mok_Places_insert : MOK m_Places_insert := ⟨by decide +kernel, by decide, cd_Places_insert, pg_Places_insert⟩
theorem hdd_ListWork_at_ : yX3_at.cls ≠ "java/lang/invoke/MethodHandle" ∧ yX3_at.cls ≠ "java/lang/invoke/VarHandle" ∧ (parseMethodDescriptor yX3_at.desc).map (fun d => d.parameters.length) = some 1 := by decide +kernel
theorem mok_ListWork_at : MOK m_ListWork_at := ⟨by decide +kernel, by decide, cd_ListWork_at, pg_ListWork_at⟩
theorem hdd_ListWork_place_ : yX3_place.cls ≠ "java/lang/invoke/MethodHandle" ∧ yX3_place.cls ≠ "java/lang/invoke/VarHandle" ∧ (parseMethodDescriptor yX3_place.desc).map (fun d => d.parameters.length) = some 4 := by decide +kernel
theorem mok_ListWork_place : MOK m_ListWork_place := ⟨by decide +kernel, by decide, cd_ListWork_place, pg_ListWork_place⟩
theorem hdx_LibraryDesk_Places_find__I_I_0 : ("LibraryDesk$Places" : String) ≠ "java/lang/invoke/MethodHandle" ∧ ("LibraryDesk$Places" : String) ≠ "java/lang/invoke/VarHandle" ∧ (parseMethodDescriptor "(I)I").map (fun d => d.parameters.length) = some 1 := by decide +kernel
theorem mok_Places_find : MOK m_Places_find := ⟨by decide +kernel, by decide, cd_Places_find, pg_Places_find⟩
theorem hdx_LibraryDesk_Places_close__II_V_0 : ("LibraryDesk$Places" : String) ≠ "java/lang/invoke/MethodHandle" ∧ ("LibraryDesk$Places" : String) ≠ "java/lang/invoke/VarHandle" ∧ (parseMethodDescriptor "(II)V").map (fun d => d.parameters.length) = some 2 := by decide +kernel
theorem mok_Places_close : MOK m_Places_close := ⟨by decide +kernel, by decide, cd_Places_close, pg_Places_close⟩
theorem hdx_LibraryDesk_Places_findLast__I_I_0 : ("LibraryDesk$Places" : String) ≠ "java/lang/invoke/MethodHandle" ∧ ("LibraryDesk$Places" : String) ≠ "java/lang/invoke/VarHandle" ∧ (parseMethodDescriptor "(I)I").map (fun d => d.parameters.length) = some 1 := by decide +kernel
theorem mok_Places_findLast : MOK m_Places_findLast := ⟨by decide +kernel, by decide, cd_Places_findLast, pg_Places_findLast⟩
theorem hdd_ListWork_replace_ : yX3_replace.cls ≠ "java/lang/invoke/MethodHandle" ∧ yX3_replace.cls ≠ "java/lang/invoke/VarHandle" ∧ (parseMethodDescriptor yX3_replace.desc).map (fun d => d.parameters.length) = some 3 := by decide +kernel
theorem mok_ListWork_replace : MOK m_ListWork_replace := ⟨by decide +kernel, by decide, cd_ListWork_replace, pg_ListWork_replace⟩
theorem hdd_ListWork_halving_ : yX3_halving.cls ≠ "java/lang/invoke/MethodHandle" ∧ yX3_halving.cls ≠ "java/lang/invoke/VarHandle" ∧ (parseMethodDescriptor yX3_halving.desc).map (fun d => d.parameters.length) = some 3 := by decide +kernel
theorem mok_ListWork_halving : MOK m_ListWork_halving := ⟨by decide +kernel, by decide, cd_ListWork_halving, pg_ListWork_halving⟩
theorem hdd_ListWork_count_ : yX3_count.cls ≠ "java/lang/invoke/MethodHandle" ∧ yX3_count.cls ≠ "java/lang/invoke/VarHandle" ∧ (parseMethodDescriptor yX3_count.desc).map (fun d => d.parameters.length) = some 2 := by decide +kernel
theorem mok_ListWork_count : MOK m_ListWork_count := ⟨by decide +kernel, by decide, cd_ListWork_count, pg_ListWork_count⟩
theorem hdd_ListWork_most_ : yX3_most.cls ≠ "java/lang/invoke/MethodHandle" ∧ yX3_most.cls ≠ "java/lang/invoke/VarHandle" ∧ (parseMethodDescriptor yX3_most.desc).map (fun d => d.parameters.length) = some 2 := by decide +kernel
theorem mok_ListWork_most : MOK m_ListWork_most := ⟨by decide +kernel, by decide, cd_ListWork_most, pg_ListWork_most⟩
theorem hdd_ListWork_permute_ : yX3_permute.cls ≠ "java/lang/invoke/MethodHandle" ∧ yX3_permute.cls ≠ "java/lang/invoke/VarHandle" ∧ (parseMethodDescriptor yX3_permute.desc).map (fun d => d.parameters.length) = some 1 := by decide +kernel
theorem mok_ListWork_permute : MOK m_ListWork_permute := ⟨by decide +kernel, by decide, cd_ListWork_permute, pg_ListWork_permute⟩
theorem hdd_ListWork_hash_ : yX3_hash.cls ≠ "java/lang/invoke/MethodHandle" ∧ yX3_hash.cls ≠ "java/lang/invoke/VarHandle" ∧ (parseMethodDescriptor yX3_hash.desc).map (fun d => d.parameters.length) = some 1 := by decide +kernel
theorem mok_ListWork_hash : MOK m_ListWork_hash := ⟨by decide +kernel, by decide, cd_ListWork_hash, pg_ListWork_hash⟩
theorem hdd_ListWork_capacity_ : yX3_capacity.cls ≠ "java/lang/invoke/MethodHandle" ∧ yX3_capacity.cls ≠ "java/lang/invoke/VarHandle" ∧ (parseMethodDescriptor yX3_capacity.desc).map (fun d => d.parameters.length) = some 3 := by decide +kernel
theorem mok_ListWork_capacity : MOK m_ListWork_capacity := ⟨by decide +kernel, by decide, cd_ListWork_capacity, pg_ListWork_capacity⟩
theorem hdd_ListWork_order_ : yX3_order.cls ≠ "java/lang/invoke/MethodHandle" ∧ yX3_order.cls ≠ "java/lang/invoke/VarHandle" ∧ (parseMethodDescriptor yX3_order.desc).map (fun d => d.parameters.length) = some 4 := by decide +kernel
theorem mok_ListWork_order : MOK m_ListWork_order := ⟨by decide +kernel, by decide, cd_ListWork_order, pg_ListWork_order⟩
theorem hdd_Orders_compare_ : yX36_compare.cls ≠ "java/lang/invoke/MethodHandle" ∧ yX36_compare.cls ≠ "java/lang/invoke/VarHandle" ∧ (parseMethodDescriptor yX36_compare.desc).map (fun d => d.parameters.length) = some 3 := by decide +kernel
theorem mok_Orders_compare : MOK m_Orders_compare := ⟨by decide +kernel, by decide, cd_Orders_compare, pg_Orders_compare⟩
theorem hdd_ListWork_swap_ : yX3_swap.cls ≠ "java/lang/invoke/MethodHandle" ∧ yX3_swap.cls ≠ "java/lang/invoke/VarHandle" ∧ (parseMethodDescriptor yX3_swap.desc).map (fun d => d.parameters.length) = some 3 := by decide +kernel
theorem mok_ListWork_swap : MOK m_ListWork_swap := ⟨by decide +kernel, by decide, cd_ListWork_swap, pg_ListWork_swap⟩
theorem hdd_ListWork_reverse_ : yX3_reverse.cls ≠ "java/lang/invoke/MethodHandle" ∧ yX3_reverse.cls ≠ "java/lang/invoke/VarHandle" ∧ (parseMethodDescriptor yX3_reverse.desc).map (fun d => d.parameters.length) = some 2 := by decide +kernel
theorem mok_ListWork_reverse : MOK m_ListWork_reverse := ⟨by decide +kernel, by decide, cd_ListWork_reverse, pg_ListWork_reverse⟩
theorem hdx_LibraryDesk_Places_rows___LLibraryDesk_Rows__0 : ("LibraryDesk$Places" : String) ≠ "java/lang/invoke/MethodHandle" ∧ ("LibraryDesk$Places" : String) ≠ "java/lang/invoke/VarHandle" ∧ (parseMethodDescriptor "()LLibraryDesk$Rows;").map (fun d => d.parameters.length) = some 0 := by decide +kernel
theorem mok_ViewThing_rows : MOK m_ViewThing_rows := ⟨by decide +kernel, by decide, cd_ViewThing_rows, pg_ViewThing_rows⟩
theorem mok_ListThing_rows : MOK m_ListThing_rows := ⟨by decide +kernel, by decide, cd_ListThing_rows, pg_ListThing_rows⟩
theorem hdd_Rows_due_ : yX18_due.cls ≠ "java/lang/invoke/MethodHandle" ∧ yX18_due.cls ≠ "java/lang/invoke/VarHandle" ∧ (parseMethodDescriptor yX18_due.desc).map (fun d => d.parameters.length) = some 1 := by decide +kernel
theorem mok_Rows_due : MOK m_Rows_due := ⟨by decide +kernel, by decide, cd_Rows_due, pg_Rows_due⟩
theorem nd_28 : va_nd ((flT 28).map (·.2)) = true := by decide +kernel
theorem pf_ListWork_156_28 {m : Nat} : PF m "LibraryDesk$ListWork" "LibraryDesk$Rows" "LibraryDesk" 156 0 277 .int 28 := ⟨RX18, TX18, 4, 2, tyX18, by decide, clr_28, in_X18, tyX18_ok, nmX18, by decide, rfl, nd_28, Or.inr (Or.inl ⟨nw1387, rfl⟩), rfl, by decide +kernel⟩
theorem gf_ListWork_153_28 : GF "LibraryDesk$ListWork" "LibraryDesk$Rows" "LibraryDesk" 153 0 276 28 := ⟨RX18, TX18, 4, 1, by decide, clr_28, in_X18, by decide, rfl, Or.inr nw1385, rfl⟩
theorem gf_ListWork_156_28 : GF "LibraryDesk$ListWork" "LibraryDesk$Rows" "LibraryDesk" 156 0 277 28 := ⟨RX18, TX18, 4, 2, by decide, clr_28, in_X18, by decide, rfl, Or.inr nw1387, rfl⟩
theorem hdd_ListWork_sort_ : yX3_sort.cls ≠ "java/lang/invoke/MethodHandle" ∧ yX3_sort.cls ≠ "java/lang/invoke/VarHandle" ∧ (parseMethodDescriptor yX3_sort.desc).map (fun d => d.parameters.length) = some 2 := by decide +kernel
theorem mok_ListWork_sort : MOK m_ListWork_sort := ⟨by decide +kernel, by decide, cd_ListWork_sort, pg_ListWork_sort⟩
theorem hdd_ListWork_rotate_ : yX3_rotate.cls ≠ "java/lang/invoke/MethodHandle" ∧ yX3_rotate.cls ≠ "java/lang/invoke/VarHandle" ∧ (parseMethodDescriptor yX3_rotate.desc).map (fun d => d.parameters.length) = some 2 := by decide +kernel
theorem mok_ListWork_rotate : MOK m_ListWork_rotate := ⟨by decide +kernel, by decide, cd_ListWork_rotate, pg_ListWork_rotate⟩
theorem hdd_ListWork_shuffle_ : yX3_shuffle.cls ≠ "java/lang/invoke/MethodHandle" ∧ yX3_shuffle.cls ≠ "java/lang/invoke/VarHandle" ∧ (parseMethodDescriptor yX3_shuffle.desc).map (fun d => d.parameters.length) = some 2 := by decide +kernel
theorem mok_ListWork_shuffle : MOK m_ListWork_shuffle := ⟨by decide +kernel, by decide, cd_ListWork_shuffle, pg_ListWork_shuffle⟩
theorem gf_ListWork_9_13 : GF "LibraryDesk$ListWork" "LibraryDesk$ListWork" "LibraryDesk" 9 2 24 13 := ⟨RX3, TX3, 2, 0, by decide, clr_13, in_X3, by decide, rfl, Or.inl q603, rfl⟩
theorem hdd_ListWork_copy_ : yX3_copy.cls ≠ "java/lang/invoke/MethodHandle" ∧ yX3_copy.cls ≠ "java/lang/invoke/VarHandle" ∧ (parseMethodDescriptor yX3_copy.desc).map (fun d => d.parameters.length) = some 2 := by decide +kernel
theorem mok_ListWork_copy : MOK m_ListWork_copy := ⟨by decide +kernel, by decide, cd_ListWork_copy, pg_ListWork_copy⟩
theorem hdd_Math_min_ : yJ12_min.cls ≠ "java/lang/invoke/MethodHandle" ∧ yJ12_min.cls ≠ "java/lang/invoke/VarHandle" ∧ (parseMethodDescriptor yJ12_min.desc).map (fun d => d.parameters.length) = some 2 := by decide +kernel
theorem mok_Math_min : MOK m_Math_min := ⟨by decide +kernel, by decide, cd_Math_min, pg_Math_min⟩
theorem hdd_ListWork_merge_ : yX3_merge.cls ≠ "java/lang/invoke/MethodHandle" ∧ yX3_merge.cls ≠ "java/lang/invoke/VarHandle" ∧ (parseMethodDescriptor yX3_merge.desc).map (fun d => d.parameters.length) = some 4 := by decide +kernel
theorem mok_ListWork_merge : MOK m_ListWork_merge := ⟨by decide +kernel, by decide, cd_ListWork_merge, pg_ListWork_merge⟩
theorem gf_ListWork_15_13 : GF "LibraryDesk$ListWork" "LibraryDesk$ListWork" "LibraryDesk" 15 2 25 13 := ⟨RX3, TX3, 2, 1, by decide, clr_13, in_X3, by decide, rfl, Or.inl q604, rfl⟩
theorem hdd_Desk_next_ : yX1_next.cls ≠ "java/lang/invoke/MethodHandle" ∧ yX1_next.cls ≠ "java/lang/invoke/VarHandle" ∧ (parseMethodDescriptor yX1_next.desc).map (fun d => d.parameters.length) = some 1 := by decide +kernel
theorem mok_Desk_next : MOK m_Desk_next := ⟨by decide +kernel, by decide, cd_Desk_next, pg_Desk_next⟩
theorem hdd_Desk_draw_ : yX1_draw.cls ≠ "java/lang/invoke/MethodHandle" ∧ yX1_draw.cls ≠ "java/lang/invoke/VarHandle" ∧ (parseMethodDescriptor yX1_draw.desc).map (fun d => d.parameters.length) = some 2 := by decide +kernel
theorem mok_Desk_draw : MOK m_Desk_draw := ⟨by decide +kernel, by decide, cd_Desk_draw, pg_Desk_draw⟩
theorem hdx_LibraryDesk_Places_open__II_V_0 : ("LibraryDesk$Places" : String) ≠ "java/lang/invoke/MethodHandle" ∧ ("LibraryDesk$Places" : String) ≠ "java/lang/invoke/VarHandle" ∧ (parseMethodDescriptor "(II)V").map (fun d => d.parameters.length) = some 2 := by decide +kernel
theorem mok_Places_open : MOK m_Places_open := ⟨by decide +kernel, by decide, cd_Places_open, pg_Places_open⟩
theorem hdd_ListWork_isIn_ : yX3_isIn.cls ≠ "java/lang/invoke/MethodHandle" ∧ yX3_isIn.cls ≠ "java/lang/invoke/VarHandle" ∧ (parseMethodDescriptor yX3_isIn.desc).map (fun d => d.parameters.length) = some 2 := by decide +kernel
theorem mok_ListWork_isIn : MOK m_ListWork_isIn := ⟨by decide +kernel, by decide, cd_ListWork_isIn, pg_ListWork_isIn⟩
theorem nd_14 : va_nd ((flT 14).map (·.2)) = true := by decide +kernel
theorem pf_PatternReader_init_7_14 : PF m_PatternReader_init "LibraryDesk$PatternReade\x72" "LibraryDesk$PatternReade\x72" "LibraryDesk" 7 2 35 (.array .long) 14 := ⟨RX4, TX4, 15, 9, tyX4, by decide, clr_14, in_X4, tyX4_ok, nmX4, by decide, rfl, nd_14, Or.inr (Or.inr ⟨q626, rfl, rfl, rfl⟩), rfl, by decide +kernel⟩
theorem pf_PatternReader_17_14 {m : Nat} : PF m "LibraryDesk$PatternReade\x72" "LibraryDesk$PatternReade\x72" "LibraryDesk" 17 2 26 (.array .byte) 14 := ⟨RX4, TX4, 15, 0, tyX4, by decide, clr_14, in_X4, tyX4_ok, nmX4, by decide, rfl, nd_14, Or.inl ⟨q617, rfl⟩, rfl, by decide +kernel⟩
theorem pf_PatternReader_13_14 {m : Nat} : PF m "LibraryDesk$PatternReade\x72" "LibraryDesk$PatternReade\x72" "LibraryDesk" 13 0 27 .int 14 := ⟨RX4, TX4, 15, 1, tyX4, by decide, clr_14, in_X4, tyX4_ok, nmX4, by decide, rfl, nd_14, Or.inl ⟨q618, rfl⟩, rfl, by decide +kernel⟩
theorem pf_PatternReader_33_14 {m : Nat} : PF m "LibraryDesk$PatternReade\x72" "LibraryDesk$PatternReade\x72" "LibraryDesk" 33 2 33 (.object "LibraryDesk$PatternThing") 14 := ⟨RX4, TX4, 15, 7, tyX4, by decide, clr_14, in_X4, tyX4_ok, nmX4, by decide, rfl, nd_14, Or.inl ⟨q624, rfl⟩, rfl, by decide +kernel⟩
theorem pf_PatternReader_37_14 {m : Nat} : PF m "LibraryDesk$PatternReade\x72" "LibraryDesk$PatternReade\x72" "LibraryDesk" 37 0 34 .boolean 14 := ⟨RX4, TX4, 15, 8, tyX4, by decide, clr_14, in_X4, tyX4_ok, nmX4, by decide, rfl, nd_14, Or.inl ⟨q625, rfl⟩, rfl, by decide +kernel⟩
theorem hdd_PatternReader_alternatives_ : yX4_alternatives.cls ≠ "java/lang/invoke/MethodHandle" ∧ yX4_alternatives.cls ≠ "java/lang/invoke/VarHandle" ∧ (parseMethodDescriptor yX4_alternatives.desc).map (fun d => d.parameters.length) = some 0 := by decide +kernel
theorem mok_PatternReader_alternatives : MOK m_PatternReader_alternatives := ⟨by decide +kernel, by decide, cd_PatternReader_alternatives, pg_PatternReader_alternatives⟩
theorem hdd_PatternReader_begin_ : yX4_begin.cls ≠ "java/lang/invoke/MethodHandle" ∧ yX4_begin.cls ≠ "java/lang/invoke/VarHandle" ∧ (parseMethodDescriptor yX4_begin.desc).map (fun d => d.parameters.length) = some 0 := by decide +kernel
theorem mok_PatternReader_begin : MOK m_PatternReader_begin := ⟨by decide +kernel, by decide, cd_PatternReader_begin, pg_PatternReader_begin⟩
theorem gf_PatternReader_21_14 : GF "LibraryDesk$PatternReade\x72" "LibraryDesk$PatternReade\x72" "LibraryDesk" 21 0 28 14 := ⟨RX4, TX4, 15, 2, by decide, clr_14, in_X4, by decide, rfl, Or.inl q619, rfl⟩
theorem gf_PatternReader_13_14 : GF "LibraryDesk$PatternReade\x72" "LibraryDesk$PatternReade\x72" "LibraryDesk" 13 0 27 14 := ⟨RX4, TX4, 15, 1, by decide, clr_14, in_X4, by decide, rfl, Or.inl q618, rfl⟩
theorem hdd_PatternReader_broken_ : yX4_broken.cls ≠ "java/lang/invoke/MethodHandle" ∧ yX4_broken.cls ≠ "java/lang/invoke/VarHandle" ∧ (parseMethodDescriptor yX4_broken.desc).map (fun d => d.parameters.length) = some 0 := by decide +kernel
theorem mok_PatternReader_broken : MOK m_PatternReader_broken := ⟨by decide +kernel, by decide, cd_PatternReader_broken, pg_PatternReader_broken⟩
theorem gf_PatternReader_33_14 : GF "LibraryDesk$PatternReade\x72" "LibraryDesk$PatternReade\x72" "LibraryDesk" 33 2 33 14 := ⟨RX4, TX4, 15, 7, by decide, clr_14, in_X4, by decide, rfl, Or.inl q624, rfl⟩
theorem hdd_PatternThing_add_ : yX28_add.cls ≠ "java/lang/invoke/MethodHandle" ∧ yX28_add.cls ≠ "java/lang/invoke/VarHandle" ∧ (parseMethodDescriptor yX28_add.desc).map (fun d => d.parameters.length) = some 3 := by decide +kernel
theorem mok_PatternThing_add : MOK m_PatternThing_add := ⟨by decide +kernel, by decide, cd_PatternThing_add, pg_PatternThing_add⟩
theorem pf_PatternReader_67_38 {m : Nat} : PF m "LibraryDesk$PatternReade\x72" "LibraryDesk$PatternThing" "LibraryDesk" 67 0 334 .int 38 := ⟨RX28, TX28, 13, 12, tyX28, by decide, clr_38, in_X28, tyX28_ok, nmX28, by decide, rfl, nd_38, Or.inr (Or.inl ⟨nw1672, rfl⟩), rfl, by decide +kernel⟩
theorem gf_PatternReader_64_14 : GF "LibraryDesk$PatternReade\x72" "LibraryDesk$PatternReade\x72" "LibraryDesk" 64 0 30 14 := ⟨RX4, TX4, 15, 4, by decide, clr_14, in_X4, by decide, rfl, Or.inl q621, rfl⟩
theorem pf_PatternReader_21_14 {m : Nat} : PF m "LibraryDesk$PatternReade\x72" "LibraryDesk$PatternReade\x72" "LibraryDesk" 21 0 28 .int 14 := ⟨RX4, TX4, 15, 2, tyX4, by decide, clr_14, in_X4, tyX4_ok, nmX4, by decide, rfl, nd_14, Or.inl ⟨q619, rfl⟩, rfl, by decide +kernel⟩
theorem pf_PatternReader_68_14 {m : Nat} : PF m "LibraryDesk$PatternReade\x72" "LibraryDesk$PatternReade\x72" "LibraryDesk" 68 0 29 .int 14 := ⟨RX4, TX4, 15, 3, tyX4, by decide, clr_14, in_X4, tyX4_ok, nmX4, by decide, rfl, nd_14, Or.inl ⟨q620, rfl⟩, rfl, by decide +kernel⟩
theorem pf_PatternReader_71_14 {m : Nat} : PF m "LibraryDesk$PatternReade\x72" "LibraryDesk$PatternReade\x72" "LibraryDesk" 71 0 31 .int 14 := ⟨RX4, TX4, 15, 5, tyX4, by decide, clr_14, in_X4, tyX4_ok, nmX4, by decide, rfl, nd_14, Or.inl ⟨q622, rfl⟩, rfl, by decide +kernel⟩
theorem pf_PatternReader_64_14 {m : Nat} : PF m "LibraryDesk$PatternReade\x72" "LibraryDesk$PatternReade\x72" "LibraryDesk" 64 0 30 .int 14 := ⟨RX4, TX4, 15, 4, tyX4, by decide, clr_14, in_X4, tyX4_ok, nmX4, by decide, rfl, nd_14, Or.inl ⟨q621, rfl⟩, rfl, by decide +kernel⟩
theorem pf_PatternReader_74_14 {m : Nat} : PF m "LibraryDesk$PatternReade\x72" "LibraryDesk$PatternReade\x72" "LibraryDesk" 74 0 32 .int 14 := ⟨RX4, TX4, 15, 6, tyX4, by decide, clr_14, in_X4, tyX4_ok, nmX4, by decide, rfl, nd_14, Or.inl ⟨q623, rfl⟩, rfl, by decide +kernel⟩
theorem gf_PatternReader_37_14 : GF "LibraryDesk$PatternReade\x72" "LibraryDesk$PatternReade\x72" "LibraryDesk" 37 0 34 14 := ⟨RX4, TX4, 15, 8, by decide, clr_14, in_X4, by decide, rfl, Or.inl q625, rfl⟩
theorem hdd_PatternReader_hasOther_ : yX4_hasOther.cls ≠ "java/lang/invoke/MethodHandle" ∧ yX4_hasOther.cls ≠ "java/lang/invoke/VarHandle" ∧ (parseMethodDescriptor yX4_hasOther.desc).map (fun d => d.parameters.length) = some 0 := by decide +kernel
theorem mok_PatternReader_hasOther : MOK m_PatternReader_hasOther := ⟨by decide +kernel, by decide, cd_PatternReader_hasOther, pg_PatternReader_hasOther⟩
theorem hdd_PatternReader_step_ : yX4_step.cls ≠ "java/lang/invoke/MethodHandle" ∧ yX4_step.cls ≠ "java/lang/invoke/VarHandle" ∧ (parseMethodDescriptor yX4_step.desc).map (fun d => d.parameters.length) = some 3 := by decide +kernel
theorem mok_PatternReader_step : MOK m_PatternReader_step := ⟨by decide +kernel, by decide, cd_PatternReader_step, pg_PatternReader_step⟩
theorem hdd_PatternReader_sequence_ : yX4_sequence.cls ≠ "java/lang/invoke/MethodHandle" ∧ yX4_sequence.cls ≠ "java/lang/invoke/VarHandle" ∧ (parseMethodDescriptor yX4_sequence.desc).map (fun d => d.parameters.length) = some 0 := by decide +kernel
theorem mok_PatternReader_sequence : MOK m_PatternReader_sequence := ⟨by decide +kernel, by decide, cd_PatternReader_sequence, pg_PatternReader_sequence⟩
theorem hdd_PatternReader_look_ : yX4_look.cls ≠ "java/lang/invoke/MethodHandle" ∧ yX4_look.cls ≠ "java/lang/invoke/VarHandle" ∧ (parseMethodDescriptor yX4_look.desc).map (fun d => d.parameters.length) = some 0 := by decide +kernel
theorem mok_PatternReader_look : MOK m_PatternReader_look := ⟨by decide +kernel, by decide, cd_PatternReader_look, pg_PatternReader_look⟩
theorem gf_PatternReader_96_38 : GF "LibraryDesk$PatternReade\x72" "LibraryDesk$PatternThing" "LibraryDesk" 96 2 325 38 := ⟨RX28, TX28, 13, 3, by decide, clr_38, in_X28, by decide, rfl, Or.inr nw1651, rfl⟩
theorem hdd_PatternReader_here_ : yX4_here.cls ≠ "java/lang/invoke/MethodHandle" ∧ yX4_here.cls ≠ "java/lang/invoke/VarHandle" ∧ (parseMethodDescriptor yX4_here.desc).map (fun d => d.parameters.length) = some 0 := by decide +kernel
theorem mok_PatternReader_here : MOK m_PatternReader_here := ⟨by decide +kernel, by decide, cd_PatternReader_here, pg_PatternReader_here⟩
theorem gf_PatternReader_100_38 : GF "LibraryDesk$PatternReade\x72" "LibraryDesk$PatternThing" "LibraryDesk" 100 2 326 38 := ⟨RX28, TX28, 13, 4, by decide, clr_38, in_X28, by decide, rfl, Or.inr nw1654, rfl⟩
theorem hdd_PatternReader_sum_ : yX4_sum.cls ≠ "java/lang/invoke/MethodHandle" ∧ yX4_sum.cls ≠ "java/lang/invoke/VarHandle" ∧ (parseMethodDescriptor yX4_sum.desc).map (fun d => d.parameters.length) = some 2 := by decide +kernel
theorem mok_PatternReader_sum : MOK m_PatternReader_sum := ⟨by decide +kernel, by decide, cd_PatternReader_sum, pg_PatternReader_sum⟩
theorem hdd_PatternReader_item_ : yX4_item.cls ≠ "java/lang/invoke/MethodHandle" ∧ yX4_item.cls ≠ "java/lang/invoke/VarHandle" ∧ (parseMethodDescriptor yX4_item.desc).map (fun d => d.parameters.length) = some 0 := by decide +kernel
theorem mok_PatternReader_item : MOK m_PatternReader_item := ⟨by decide +kernel, by decide, cd_PatternReader_item, pg_PatternReader_item⟩
theorem hdd_PatternReader_byteAt_ : yX4_byteAt.cls ≠ "java/lang/invoke/MethodHandle" ∧ yX4_byteAt.cls ≠ "java/lang/invoke/VarHandle" ∧ (parseMethodDescriptor yX4_byteAt.desc).map (fun d => d.parameters.length) = some 1 := by decide +kernel
theorem mok_PatternReader_byteAt : MOK m_PatternReader_byteAt := ⟨by decide +kernel, by decide, cd_PatternReader_byteAt, pg_PatternReader_byteAt⟩
theorem gf_PatternReader_17_14 : GF "LibraryDesk$PatternReade\x72" "LibraryDesk$PatternReade\x72" "LibraryDesk" 17 2 26 14 := ⟨RX4, TX4, 15, 0, by decide, clr_14, in_X4, by decide, rfl, Or.inl q617, rfl⟩
theorem gf_PatternReader_74_14 : GF "LibraryDesk$PatternReade\x72" "LibraryDesk$PatternReade\x72" "LibraryDesk" 74 0 32 14 := ⟨RX4, TX4, 15, 6, by decide, clr_14, in_X4, by decide, rfl, Or.inl q623, rfl⟩
theorem hdd_PatternReader_atom_ : yX4_atom.cls ≠ "java/lang/invoke/MethodHandle" ∧ yX4_atom.cls ≠ "java/lang/invoke/VarHandle" ∧ (parseMethodDescriptor yX4_atom.desc).map (fun d => d.parameters.length) = some 0 := by decide +kernel
theorem mok_PatternReader_atom : MOK m_PatternReader_atom := ⟨by decide +kernel, by decide, cd_PatternReader_atom, pg_PatternReader_atom⟩
theorem hdd_PatternReader_quantifier_ : yX4_quantifier.cls ≠ "java/lang/invoke/MethodHandle" ∧ yX4_quantifier.cls ≠ "java/lang/invoke/VarHandle" ∧ (parseMethodDescriptor yX4_quantifier.desc).map (fun d => d.parameters.length) = some 1 := by decide +kernel
theorem mok_PatternReader_quantifier : MOK m_PatternReader_quantifier := ⟨by decide +kernel, by decide, cd_PatternReader_quantifier, pg_PatternReader_quantifier⟩
theorem hdd_PatternReader_isLoose_ : yX4_isLoose.cls ≠ "java/lang/invoke/MethodHandle" ∧ yX4_isLoose.cls ≠ "java/lang/invoke/VarHandle" ∧ (parseMethodDescriptor yX4_isLoose.desc).map (fun d => d.parameters.length) = some 1 := by decide +kernel
theorem mok_PatternReader_isLoose : MOK m_PatternReader_isLoose := ⟨by decide +kernel, by decide, cd_PatternReader_isLoose, pg_PatternReader_isLoose⟩
theorem hdd_PatternReader_once_ : yX4_once.cls ≠ "java/lang/invoke/MethodHandle" ∧ yX4_once.cls ≠ "java/lang/invoke/VarHandle" ∧ (parseMethodDescriptor yX4_once.desc).map (fun d => d.parameters.length) = some 2 := by decide +kernel
theorem mok_PatternReader_once : MOK m_PatternReader_once := ⟨by decide +kernel, by decide, cd_PatternReader_once, pg_PatternReader_once⟩
theorem gf_PatternReader_131_14 : GF "LibraryDesk$PatternReade\x72" "LibraryDesk$PatternReade\x72" "LibraryDesk" 131 0 39 14 := ⟨RX4, TX4, 15, 13, by decide, clr_14, in_X4, by decide, rfl, Or.inl q630, rfl⟩
theorem gf_PatternReader_128_14 : GF "LibraryDesk$PatternReade\x72" "LibraryDesk$PatternReade\x72" "LibraryDesk" 128 0 40 14 := ⟨RX4, TX4, 15, 14, by decide, clr_14, in_X4, by decide, rfl, Or.inl q631, rfl⟩
theorem gf_PatternReader_71_14 : GF "LibraryDesk$PatternReade\x72" "LibraryDesk$PatternReade\x72" "LibraryDesk" 71 0 31 14 := ⟨RX4, TX4, 15, 5, by decide, clr_14, in_X4, by decide, rfl, Or.inl q622, rfl⟩
theorem bkf_PatternReader_28_30 : BKF "LibraryDesk$PatternReade\x72" RX38 "LibraryDesk" TB48 cX38_init 48 365 28 30 := ⟨by decide, rfl, rfl, q3211, q3100, q561, q3109, q3110, Or.inr nw3212, by decide, by decide⟩
theorem gf_PatternReader_134_14 : GF "LibraryDesk$PatternReade\x72" "LibraryDesk$PatternReade\x72" "LibraryDesk" 134 0 36 14 := ⟨RX4, TX4, 15, 10, by decide, clr_14, in_X4, by decide, rfl, Or.inl q627, rfl⟩
theorem gf_PatternReader_140_14 : GF "LibraryDesk$PatternReade\x72" "LibraryDesk$PatternReade\x72" "LibraryDesk" 140 0 38 14 := ⟨RX4, TX4, 15, 12, by decide, clr_14, in_X4, by decide, rfl, Or.inl q629, rfl⟩
theorem gf_PatternReader_137_14 : GF "LibraryDesk$PatternReade\x72" "LibraryDesk$PatternReade\x72" "LibraryDesk" 137 0 37 14 := ⟨RX4, TX4, 15, 11, by decide, clr_14, in_X4, by decide, rfl, Or.inl q628, rfl⟩
theorem hdd_PatternReader_repeat_ : yX4_repeat.cls ≠ "java/lang/invoke/MethodHandle" ∧ yX4_repeat.cls ≠ "java/lang/invoke/VarHandle" ∧ (parseMethodDescriptor yX4_repeat.desc).map (fun d => d.parameters.length) = some 5 := by decide +kernel
theorem mok_PatternReader_repeat : MOK m_PatternReader_repeat := ⟨by decide +kernel, by decide, cd_PatternReader_repeat, pg_PatternReader_repeat⟩
theorem hdd_PatternReader_times_ : yX4_times.cls ≠ "java/lang/invoke/MethodHandle" ∧ yX4_times.cls ≠ "java/lang/invoke/VarHandle" ∧ (parseMethodDescriptor yX4_times.desc).map (fun d => d.parameters.length) = some 2 := by decide +kernel
theorem mok_PatternReader_times : MOK m_PatternReader_times := ⟨by decide +kernel, by decide, cd_PatternReader_times, pg_PatternReader_times⟩
theorem hdd_PatternReader_sets_ : yX4_sets.cls ≠ "java/lang/invoke/MethodHandle" ∧ yX4_sets.cls ≠ "java/lang/invoke/VarHandle" ∧ (parseMethodDescriptor yX4_sets.desc).map (fun d => d.parameters.length) = some 0 := by decide +kernel
theorem mok_PatternReader_sets : MOK m_PatternReader_sets := ⟨by decide +kernel, by decide, cd_PatternReader_sets, pg_PatternReader_sets⟩
theorem hdd_PatternReader_group_ : yX4_group.cls ≠ "java/lang/invoke/MethodHandle" ∧ yX4_group.cls ≠ "java/lang/invoke/VarHandle" ∧ (parseMethodDescriptor yX4_group.desc).map (fun d => d.parameters.length) = some 0 := by decide +kernel
theorem mok_PatternReader_group : MOK m_PatternReader_group := ⟨by decide +kernel, by decide, cd_PatternReader_group, pg_PatternReader_group⟩
theorem hdd_PatternReader_escape_ : yX4_escape.cls ≠ "java/lang/invoke/MethodHandle" ∧ yX4_escape.cls ≠ "java/lang/invoke/VarHandle" ∧ (parseMethodDescriptor yX4_escape.desc).map (fun d => d.parameters.length) = some 0 := by decide +kernel
theorem mok_PatternReader_escape : MOK m_PatternReader_escape := ⟨by decide +kernel, by decide, cd_PatternReader_escape, pg_PatternReader_escape⟩
theorem gf_PatternReader_68_14 : GF "LibraryDesk$PatternReade\x72" "LibraryDesk$PatternReade\x72" "LibraryDesk" 68 0 29 14 := ⟨RX4, TX4, 15, 3, by decide, clr_14, in_X4, by decide, rfl, Or.inl q620, rfl⟩
theorem gf_PatternReader_77_38 : GF "LibraryDesk$PatternReade\x72" "LibraryDesk$PatternThing" "LibraryDesk" 77 0 331 38 := ⟨RX28, TX28, 13, 9, by decide, clr_38, in_X28, by decide, rfl, Or.inr nw1666, rfl⟩
theorem hdd_PatternReader_clear_ : yX4_clear.cls ≠ "java/lang/invoke/MethodHandle" ∧ yX4_clear.cls ≠ "java/lang/invoke/VarHandle" ∧ (parseMethodDescriptor yX4_clear.desc).map (fun d => d.parameters.length) = some 0 := by decide +kernel
theorem mok_PatternReader_clear : MOK m_PatternReader_clear := ⟨by decide +kernel, by decide, cd_PatternReader_clear, pg_PatternReader_clear⟩
theorem hdd_PatternReader_element_ : yX4_element.cls ≠ "java/lang/invoke/MethodHandle" ∧ yX4_element.cls ≠ "java/lang/invoke/VarHandle" ∧ (parseMethodDescriptor yX4_element.desc).map (fun d => d.parameters.length) = some 0 := by decide +kernel
theorem mok_PatternReader_element : MOK m_PatternReader_element := ⟨by decide +kernel, by decide, cd_PatternReader_element, pg_PatternReader_element⟩
theorem hdd_PatternReader_keepSet_ : yX4_keepSet.cls ≠ "java/lang/invoke/MethodHandle" ∧ yX4_keepSet.cls ≠ "java/lang/invoke/VarHandle" ∧ (parseMethodDescriptor yX4_keepSet.desc).map (fun d => d.parameters.length) = some 1 := by decide +kernel
theorem mok_PatternReader_keepSet : MOK m_PatternReader_keepSet := ⟨by decide +kernel, by decide, cd_PatternReader_keepSet, pg_PatternReader_keepSet⟩
theorem gf_PatternReader_7_14 : GF "LibraryDesk$PatternReade\x72" "LibraryDesk$PatternReade\x72" "LibraryDesk" 7 2 35 14 := ⟨RX4, TX4, 15, 9, by decide, clr_14, in_X4, by decide, rfl, Or.inl q626, rfl⟩
theorem hdd_PatternReader_isKind_ : yX4_isKind.cls ≠ "java/lang/invoke/MethodHandle" ∧ yX4_isKind.cls ≠ "java/lang/invoke/VarHandle" ∧ (parseMethodDescriptor yX4_isKind.desc).map (fun d => d.parameters.length) = some 1 := by decide +kernel
theorem mok_PatternReader_isKind : MOK m_PatternReader_isKind := ⟨by decide +kernel, by decide, cd_PatternReader_isKind, pg_PatternReader_isKind⟩
theorem hdd_PatternReader_putKind_ : yX4_putKind.cls ≠ "java/lang/invoke/MethodHandle" ∧ yX4_putKind.cls ≠ "java/lang/invoke/VarHandle" ∧ (parseMethodDescriptor yX4_putKind.desc).map (fun d => d.parameters.length) = some 1 := by decide +kernel
theorem mok_PatternReader_putKind : MOK m_PatternReader_putKind := ⟨by decide +kernel, by decide, cd_PatternReader_putKind, pg_PatternReader_putKind⟩
theorem hdd_PatternReader_itself_ : yX4_itself.cls ≠ "java/lang/invoke/MethodHandle" ∧ yX4_itself.cls ≠ "java/lang/invoke/VarHandle" ∧ (parseMethodDescriptor yX4_itself.desc).map (fun d => d.parameters.length) = some 1 := by decide +kernel
theorem mok_PatternReader_itself : MOK m_PatternReader_itself := ⟨by decide +kernel, by decide, cd_PatternReader_itself, pg_PatternReader_itself⟩
theorem hdd_PatternReader_put_ : yX4_put.cls ≠ "java/lang/invoke/MethodHandle" ∧ yX4_put.cls ≠ "java/lang/invoke/VarHandle" ∧ (parseMethodDescriptor yX4_put.desc).map (fun d => d.parameters.length) = some 1 := by decide +kernel
theorem mok_PatternReader_put : MOK m_PatternReader_put := ⟨by decide +kernel, by decide, cd_PatternReader_put, pg_PatternReader_put⟩
theorem hdd_PatternReader_isDigit_ : yX4_isDigit.cls ≠ "java/lang/invoke/MethodHandle" ∧ yX4_isDigit.cls ≠ "java/lang/invoke/VarHandle" ∧ (parseMethodDescriptor yX4_isDigit.desc).map (fun d => d.parameters.length) = some 1 := by decide +kernel
theorem mok_PatternReader_isDigit : MOK m_PatternReader_isDigit := ⟨by decide +kernel, by decide, cd_PatternReader_isDigit, pg_PatternReader_isDigit⟩
theorem hdd_TextThing_isBlank_ : yX27_isBlank.cls ≠ "java/lang/invoke/MethodHandle" ∧ yX27_isBlank.cls ≠ "java/lang/invoke/VarHandle" ∧ (parseMethodDescriptor yX27_isBlank.desc).map (fun d => d.parameters.length) = some 1 := by decide +kernel
theorem mok_TextThing_isBlank : MOK m_TextThing_isBlank := ⟨by decide +kernel, by decide, cd_TextThing_isBlank, pg_TextThing_isBlank⟩
theorem hdd_PatternReader_isWord_ : yX4_isWord.cls ≠ "java/lang/invoke/MethodHandle" ∧ yX4_isWord.cls ≠ "java/lang/invoke/VarHandle" ∧ (parseMethodDescriptor yX4_isWord.desc).map (fun d => d.parameters.length) = some 1 := by decide +kernel
theorem mok_PatternReader_isWord : MOK m_PatternReader_isWord := ⟨by decide +kernel, by decide, cd_PatternReader_isWord, pg_PatternReader_isWord⟩
theorem hdd_PatternReader_isLetter_ : yX4_isLetter.cls ≠ "java/lang/invoke/MethodHandle" ∧ yX4_isLetter.cls ≠ "java/lang/invoke/VarHandle" ∧ (parseMethodDescriptor yX4_isLetter.desc).map (fun d => d.parameters.length) = some 1 := by decide +kernel
theorem mok_PatternReader_isLetter : MOK m_PatternReader_isLetter := ⟨by decide +kernel, by decide, cd_PatternReader_isLetter, pg_PatternReader_isLetter⟩
theorem gf_PatternReader_201_38 : GF "LibraryDesk$PatternReade\x72" "LibraryDesk$PatternThing" "LibraryDesk" 201 2 332 38 := ⟨RX28, TX28, 13, 10, by decide, clr_38, in_X28, by decide, rfl, Or.inr nw1668, rfl⟩
theorem gf_PatternReader_203_38 : GF "LibraryDesk$PatternReade\x72" "LibraryDesk$PatternThing" "LibraryDesk" 203 0 333 38 := ⟨RX28, TX28, 13, 11, by decide, clr_38, in_X28, by decide, rfl, Or.inr nw1670, rfl⟩
theorem pf_PatternReader_203_38 {m : Nat} : PF m "LibraryDesk$PatternReade\x72" "LibraryDesk$PatternThing" "LibraryDesk" 203 0 333 .int 38 := ⟨RX28, TX28, 13, 11, tyX28, by decide, clr_38, in_X28, tyX28_ok, nmX28, by decide, rfl, nd_38, Or.inr (Or.inl ⟨nw1670, rfl⟩), rfl, by decide +kernel⟩
theorem pf_PatternReader_128_14 {m : Nat} : PF m "LibraryDesk$PatternReade\x72" "LibraryDesk$PatternReade\x72" "LibraryDesk" 128 0 40 .boolean 14 := ⟨RX4, TX4, 15, 14, tyX4, by decide, clr_14, in_X4, tyX4_ok, nmX4, by decide, rfl, nd_14, Or.inl ⟨q631, rfl⟩, rfl, by decide +kernel⟩
theorem pf_PatternReader_134_14 {m : Nat} : PF m "LibraryDesk$PatternReade\x72" "LibraryDesk$PatternReade\x72" "LibraryDesk" 134 0 36 .int 14 := ⟨RX4, TX4, 15, 10, tyX4, by decide, clr_14, in_X4, tyX4_ok, nmX4, by decide, rfl, nd_14, Or.inl ⟨q627, rfl⟩, rfl, by decide +kernel⟩
theorem pf_PatternReader_137_14 {m : Nat} : PF m "LibraryDesk$PatternReade\x72" "LibraryDesk$PatternReade\x72" "LibraryDesk" 137 0 37 .int 14 := ⟨RX4, TX4, 15, 11, tyX4, by decide, clr_14, in_X4, tyX4_ok, nmX4, by decide, rfl, nd_14, Or.inl ⟨q628, rfl⟩, rfl, by decide +kernel⟩
theorem hdd_PatternReader_counts_ : yX4_counts.cls ≠ "java/lang/invoke/MethodHandle" ∧ yX4_counts.cls ≠ "java/lang/invoke/VarHandle" ∧ (parseMethodDescriptor yX4_counts.desc).map (fun d => d.parameters.length) = some 0 := by decide +kernel
theorem mok_PatternReader_counts : MOK m_PatternReader_counts := ⟨by decide +kernel, by decide, cd_PatternReader_counts, pg_PatternReader_counts⟩
theorem pf_PatternReader_140_14 {m : Nat} : PF m "LibraryDesk$PatternReade\x72" "LibraryDesk$PatternReade\x72" "LibraryDesk" 140 0 38 .boolean 14 := ⟨RX4, TX4, 15, 12, tyX4, by decide, clr_14, in_X4, tyX4_ok, nmX4, by decide, rfl, nd_14, Or.inl ⟨q629, rfl⟩, rfl, by decide +kernel⟩
theorem pf_PatternReader_131_14 {m : Nat} : PF m "LibraryDesk$PatternReade\x72" "LibraryDesk$PatternReade\x72" "LibraryDesk" 131 0 39 .boolean 14 := ⟨RX4, TX4, 15, 13, tyX4, by decide, clr_14, in_X4, tyX4_ok, nmX4, by decide, rfl, nd_14, Or.inl ⟨q630, rfl⟩, rfl, by decide +kernel⟩
theorem hdd_PatternReader_number_ : yX4_number.cls ≠ "java/lang/invoke/MethodHandle" ∧ yX4_number.cls ≠ "java/lang/invoke/VarHandle" ∧ (parseMethodDescriptor yX4_number.desc).map (fun d => d.parameters.length) = some 0 := by decide +kernel
theorem mok_PatternReader_number : MOK m_PatternReader_number := ⟨by decide +kernel, by decide, cd_PatternReader_number, pg_PatternReader_number⟩
theorem hdd_PatternReader_star_ : yX4_star.cls ≠ "java/lang/invoke/MethodHandle" ∧ yX4_star.cls ≠ "java/lang/invoke/VarHandle" ∧ (parseMethodDescriptor yX4_star.desc).map (fun d => d.parameters.length) = some 3 := by decide +kernel
theorem mok_PatternReader_star : MOK m_PatternReader_star := ⟨by decide +kernel, by decide, cd_PatternReader_star, pg_PatternReader_star⟩
theorem hdd_PatternReader_ends_ : yX4_ends.cls ≠ "java/lang/invoke/MethodHandle" ∧ yX4_ends.cls ≠ "java/lang/invoke/VarHandle" ∧ (parseMethodDescriptor yX4_ends.desc).map (fun d => d.parameters.length) = some 2 := by decide +kernel
theorem mok_PatternReader_ends : MOK m_PatternReader_ends := ⟨by decide +kernel, by decide, cd_PatternReader_ends, pg_PatternReader_ends⟩
theorem hdd_PatternThing_openLoop_ : yX28_openLoop.cls ≠ "java/lang/invoke/MethodHandle" ∧ yX28_openLoop.cls ≠ "java/lang/invoke/VarHandle" ∧ (parseMethodDescriptor yX28_openLoop.desc).map (fun d => d.parameters.length) = some 0 := by decide +kernel
theorem mok_PatternThing_openLoop : MOK m_PatternThing_openLoop := ⟨by decide +kernel, by decide, cd_PatternThing_openLoop, pg_PatternThing_openLoop⟩
theorem gf_PatternReader_169_38 : GF "LibraryDesk$PatternReade\x72" "LibraryDesk$PatternThing" "LibraryDesk" 169 2 328 38 := ⟨RX28, TX28, 13, 6, by decide, clr_38, in_X28, by decide, rfl, Or.inr nw1660, rfl⟩
theorem pf_PatternReader_172_38 {m : Nat} : PF m "LibraryDesk$PatternReade\x72" "LibraryDesk$PatternThing" "LibraryDesk" 172 0 330 .int 38 := ⟨RX28, TX28, 13, 8, tyX28, by decide, clr_38, in_X28, tyX28_ok, nmX28, by decide, rfl, nd_38, Or.inr (Or.inl ⟨nw1663, rfl⟩), rfl, by decide +kernel⟩
theorem hdd_PatternReader_set_ : yX4_set.cls ≠ "java/lang/invoke/MethodHandle" ∧ yX4_set.cls ≠ "java/lang/invoke/VarHandle" ∧ (parseMethodDescriptor yX4_set.desc).map (fun d => d.parameters.length) = some 4 := by decide +kernel
theorem mok_PatternReader_set : MOK m_PatternReader_set := ⟨by decide +kernel, by decide, cd_PatternReader_set, pg_PatternReader_set⟩
theorem gf_PatternReader_178_38 : GF "LibraryDesk$PatternReade\x72" "LibraryDesk$PatternThing" "LibraryDesk" 178 2 324 38 := ⟨RX28, TX28, 13, 2, by decide, clr_38, in_X28, by decide, rfl, Or.inr nw1649, rfl⟩
theorem nd_15 : va_nd ((flT 15).map (·.2)) = true := by decide +kernel
theorem pf_Matcher_init_14_15 : PF m_Matcher_init "LibraryDesk$Matche\x72" "LibraryDesk$Matche\x72" "LibraryDesk" 14 2 41 (.array .long) 15 := ⟨RX5, TX5, 11, 0, tyX5, by decide, clr_15, in_X5, tyX5_ok, nmX5, by decide, rfl, nd_15, Or.inr (Or.inr ⟨q675, rfl, rfl, rfl⟩), rfl, by decide +kernel⟩
theorem pf_Matcher_init_18_15 : PF m_Matcher_init "LibraryDesk$Matche\x72" "LibraryDesk$Matche\x72" "LibraryDesk" 18 2 42 (.array .int) 15 := ⟨RX5, TX5, 11, 1, tyX5, by decide, clr_15, in_X5, tyX5_ok, nmX5, by decide, rfl, nd_15, Or.inr (Or.inr ⟨q676, rfl, rfl, rfl⟩), rfl, by decide +kernel⟩
theorem pf_Matcher_init_22_15 : PF m_Matcher_init "LibraryDesk$Matche\x72" "LibraryDesk$Matche\x72" "LibraryDesk" 22 2 43 (.array .int) 15 := ⟨RX5, TX5, 11, 2, tyX5, by decide, clr_15, in_X5, tyX5_ok, nmX5, by decide, rfl, nd_15, Or.inr (Or.inr ⟨q677, rfl, rfl, rfl⟩), rfl, by decide +kernel⟩
theorem pf_Matcher_25_15 {m : Nat} : PF m "LibraryDesk$Matche\x72" "LibraryDesk$Matche\x72" "LibraryDesk" 25 2 44 (.array .long) 15 := ⟨RX5, TX5, 11, 3, tyX5, by decide, clr_15, in_X5, tyX5_ok, nmX5, by decide, rfl, nd_15, Or.inl ⟨q679, rfl⟩, rfl, by decide +kernel⟩
theorem pf_Matcher_init_28_15 : PF m_Matcher_init "LibraryDesk$Matche\x72" "LibraryDesk$Matche\x72" "LibraryDesk" 28 2 49 (.array .boolean) 15 := ⟨RX5, TX5, 11, 8, tyX5, by decide, clr_15, in_X5, tyX5_ok, nmX5, by decide, rfl, nd_15, Or.inr (Or.inr ⟨q684, rfl, rfl, rfl⟩), rfl, by decide +kernel⟩
theorem hdd_Matcher_forget_ : yX5_forget.cls ≠ "java/lang/invoke/MethodHandle" ∧ yX5_forget.cls ≠ "java/lang/invoke/VarHandle" ∧ (parseMethodDescriptor yX5_forget.desc).map (fun d => d.parameters.length) = some 0 := by decide +kernel
theorem mok_Matcher_forget : MOK m_Matcher_forget := ⟨by decide +kernel, by decide, cd_Matcher_forget, pg_Matcher_forget⟩
theorem pf_Matcher_init_32_15 : PF m_Matcher_init "LibraryDesk$Matche\x72" "LibraryDesk$Matche\x72" "LibraryDesk" 32 2 50 (.array .byte) 15 := ⟨RX5, TX5, 11, 9, tyX5, by decide, clr_15, in_X5, tyX5_ok, nmX5, by decide, rfl, nd_15, Or.inr (Or.inr ⟨q685, rfl, rfl, rfl⟩), rfl, by decide +kernel⟩
theorem gf_Matcher_22_15 : GF "LibraryDesk$Matche\x72" "LibraryDesk$Matche\x72" "LibraryDesk" 22 2 43 15 := ⟨RX5, TX5, 11, 2, by decide, clr_15, in_X5, by decide, rfl, Or.inl q677, rfl⟩
theorem hdd_Matcher_begin_ : yX5_begin.cls ≠ "java/lang/invoke/MethodHandle" ∧ yX5_begin.cls ≠ "java/lang/invoke/VarHandle" ∧ (parseMethodDescriptor yX5_begin.desc).map (fun d => d.parameters.length) = some 3 := by decide +kernel
theorem mok_Matcher_begin : MOK m_Matcher_begin := ⟨by decide +kernel, by decide, cd_Matcher_begin, pg_Matcher_begin⟩
theorem gf_Matcher_85_37 : GF "LibraryDesk$Matche\x72" "LibraryDesk$TextThing" "LibraryDesk" 85 0 323 37 := ⟨RX27, TX27, 4, 3, by decide, clr_37, in_X27, by decide, rfl, Or.inr nw1631, rfl⟩
theorem gf_Matcher_43_15 : GF "LibraryDesk$Matche\x72" "LibraryDesk$Matche\x72" "LibraryDesk" 43 2 47 15 := ⟨RX5, TX5, 11, 6, by decide, clr_15, in_X5, by decide, rfl, Or.inl q682, rfl⟩
theorem hdd_Matcher_at_ : yX5_at.cls ≠ "java/lang/invoke/MethodHandle" ∧ yX5_at.cls ≠ "java/lang/invoke/VarHandle" ∧ (parseMethodDescriptor yX5_at.desc).map (fun d => d.parameters.length) = some 1 := by decide +kernel
theorem mok_Matcher_at : MOK m_Matcher_at := ⟨by decide +kernel, by decide, cd_Matcher_at, pg_Matcher_at⟩
theorem hdd_Matcher_keep_ : yX5_keep.cls ≠ "java/lang/invoke/MethodHandle" ∧ yX5_keep.cls ≠ "java/lang/invoke/VarHandle" ∧ (parseMethodDescriptor yX5_keep.desc).map (fun d => d.parameters.length) = some 0 := by decide +kernel
theorem mok_Matcher_keep : MOK m_Matcher_keep := ⟨by decide +kernel, by decide, cd_Matcher_keep, pg_Matcher_keep⟩
theorem pf_Matcher_39_15 {m : Nat} : PF m "LibraryDesk$Matche\x72" "LibraryDesk$Matche\x72" "LibraryDesk" 39 2 46 (.object "LibraryDesk$PatternThing") 15 := ⟨RX5, TX5, 11, 5, tyX5, by decide, clr_15, in_X5, tyX5_ok, nmX5, by decide, rfl, nd_15, Or.inl ⟨q681, rfl⟩, rfl, by decide +kernel⟩
theorem pf_Matcher_43_15 {m : Nat} : PF m "LibraryDesk$Matche\x72" "LibraryDesk$Matche\x72" "LibraryDesk" 43 2 47 (.object "LibraryDesk$TextThing") 15 := ⟨RX5, TX5, 11, 6, tyX5, by decide, clr_15, in_X5, tyX5_ok, nmX5, by decide, rfl, nd_15, Or.inl ⟨q682, rfl⟩, rfl, by decide +kernel⟩
theorem pf_Matcher_47_15 {m : Nat} : PF m "LibraryDesk$Matche\x72" "LibraryDesk$Matche\x72" "LibraryDesk" 47 0 48 .boolean 15 := ⟨RX5, TX5, 11, 7, tyX5, by decide, clr_15, in_X5, tyX5_ok, nmX5, by decide, rfl, nd_15, Or.inl ⟨q683, rfl⟩, rfl, by decide +kernel⟩
theorem hdd_Matcher_clear_ : yX5_clear.cls ≠ "java/lang/invoke/MethodHandle" ∧ yX5_clear.cls ≠ "java/lang/invoke/VarHandle" ∧ (parseMethodDescriptor yX5_clear.desc).map (fun d => d.parameters.length) = some 2 := by decide +kernel
theorem mok_Matcher_clear : MOK m_Matcher_clear := ⟨by decide +kernel, by decide, cd_Matcher_clear, pg_Matcher_clear⟩
theorem gf_Matcher_51_38 : GF "LibraryDesk$Matche\x72" "LibraryDesk$PatternThing" "LibraryDesk" 51 0 331 38 := ⟨RX28, TX28, 13, 9, by decide, clr_38, in_X28, by decide, rfl, Or.inr nw1665, rfl⟩
theorem gf_Matcher_39_15 : GF "LibraryDesk$Matche\x72" "LibraryDesk$Matche\x72" "LibraryDesk" 39 2 46 15 := ⟨RX5, TX5, 11, 5, by decide, clr_15, in_X5, by decide, rfl, Or.inl q681, rfl⟩
theorem gf_Matcher_14_15 : GF "LibraryDesk$Matche\x72" "LibraryDesk$Matche\x72" "LibraryDesk" 14 2 41 15 := ⟨RX5, TX5, 11, 0, by decide, clr_15, in_X5, by decide, rfl, Or.inl q675, rfl⟩
theorem pf_Matcher_65_15 {m : Nat} : PF m "LibraryDesk$Matche\x72" "LibraryDesk$Matche\x72" "LibraryDesk" 65 0 45 .int 15 := ⟨RX5, TX5, 11, 4, tyX5, by decide, clr_15, in_X5, tyX5_ok, nmX5, by decide, rfl, nd_15, Or.inl ⟨q680, rfl⟩, rfl, by decide +kernel⟩
theorem gf_Matcher_18_15 : GF "LibraryDesk$Matche\x72" "LibraryDesk$Matche\x72" "LibraryDesk" 18 2 42 15 := ⟨RX5, TX5, 11, 1, by decide, clr_15, in_X5, by decide, rfl, Or.inl q676, rfl⟩
theorem hdd_Matcher_run_ : yX5_run.cls ≠ "java/lang/invoke/MethodHandle" ∧ yX5_run.cls ≠ "java/lang/invoke/VarHandle" ∧ (parseMethodDescriptor yX5_run.desc).map (fun d => d.parameters.length) = some 3 := by decide +kernel
theorem mok_Matcher_run : MOK m_Matcher_run := ⟨by decide +kernel, by decide, cd_Matcher_run, pg_Matcher_run⟩
theorem gf_Matcher_65_15 : GF "LibraryDesk$Matche\x72" "LibraryDesk$Matche\x72" "LibraryDesk" 65 0 45 15 := ⟨RX5, TX5, 11, 4, by decide, clr_15, in_X5, by decide, rfl, Or.inl q680, rfl⟩
theorem hdd_Matcher_pop_ : yX5_pop.cls ≠ "java/lang/invoke/MethodHandle" ∧ yX5_pop.cls ≠ "java/lang/invoke/VarHandle" ∧ (parseMethodDescriptor yX5_pop.desc).map (fun d => d.parameters.length) = some 0 := by decide +kernel
theorem mok_Matcher_pop : MOK m_Matcher_pop := ⟨by decide +kernel, by decide, cd_Matcher_pop, pg_Matcher_pop⟩
theorem gf_Matcher_25_15 : GF "LibraryDesk$Matche\x72" "LibraryDesk$Matche\x72" "LibraryDesk" 25 2 44 15 := ⟨RX5, TX5, 11, 3, by decide, clr_15, in_X5, by decide, rfl, Or.inl q679, rfl⟩
theorem hdd_Matcher_isNew_ : yX5_isNew.cls ≠ "java/lang/invoke/MethodHandle" ∧ yX5_isNew.cls ≠ "java/lang/invoke/VarHandle" ∧ (parseMethodDescriptor yX5_isNew.desc).map (fun d => d.parameters.length) = some 2 := by decide +kernel
theorem mok_Matcher_isNew : MOK m_Matcher_isNew := ⟨by decide +kernel, by decide, cd_Matcher_isNew, pg_Matcher_isNew⟩
theorem gf_Matcher_108_38 : GF "LibraryDesk$Matche\x72" "LibraryDesk$PatternThing" "LibraryDesk" 108 2 324 38 := ⟨RX28, TX28, 13, 2, by decide, clr_38, in_X28, by decide, rfl, Or.inr nw1648, rfl⟩
theorem gf_Matcher_47_15 : GF "LibraryDesk$Matche\x72" "LibraryDesk$Matche\x72" "LibraryDesk" 47 0 48 15 := ⟨RX5, TX5, 11, 7, by decide, clr_15, in_X5, by decide, rfl, Or.inl q683, rfl⟩
theorem gf_Matcher_111_38 : GF "LibraryDesk$Matche\x72" "LibraryDesk$PatternThing" "LibraryDesk" 111 2 326 38 := ⟨RX28, TX28, 13, 4, by decide, clr_38, in_X28, by decide, rfl, Or.inr nw1655, rfl⟩
theorem hdd_Matcher_pushWay_ : yX5_pushWay.cls ≠ "java/lang/invoke/MethodHandle" ∧ yX5_pushWay.cls ≠ "java/lang/invoke/VarHandle" ∧ (parseMethodDescriptor yX5_pushWay.desc).map (fun d => d.parameters.length) = some 2 := by decide +kernel
theorem mok_Matcher_pushWay : MOK m_Matcher_pushWay := ⟨by decide +kernel, by decide, cd_Matcher_pushWay, pg_Matcher_pushWay⟩
theorem gf_Matcher_117_38 : GF "LibraryDesk$Matche\x72" "LibraryDesk$PatternThing" "LibraryDesk" 117 2 325 38 := ⟨RX28, TX28, 13, 3, by decide, clr_38, in_X28, by decide, rfl, Or.inr nw1652, rfl⟩
theorem hdd_Matcher_pushSlot_ : yX5_pushSlot.cls ≠ "java/lang/invoke/MethodHandle" ∧ yX5_pushSlot.cls ≠ "java/lang/invoke/VarHandle" ∧ (parseMethodDescriptor yX5_pushSlot.desc).map (fun d => d.parameters.length) = some 1 := by decide +kernel
theorem mok_Matcher_pushSlot : MOK m_Matcher_pushSlot := ⟨by decide +kernel, by decide, cd_Matcher_pushSlot, pg_Matcher_pushSlot⟩
theorem hdd_Matcher_within_ : yX5_within.cls ≠ "java/lang/invoke/MethodHandle" ∧ yX5_within.cls ≠ "java/lang/invoke/VarHandle" ∧ (parseMethodDescriptor yX5_within.desc).map (fun d => d.parameters.length) = some 2 := by decide +kernel
theorem mok_Matcher_within : MOK m_Matcher_within := ⟨by decide +kernel, by decide, cd_Matcher_within, pg_Matcher_within⟩
theorem hdd_Matcher_holds_ : yX5_holds.cls ≠ "java/lang/invoke/MethodHandle" ∧ yX5_holds.cls ≠ "java/lang/invoke/VarHandle" ∧ (parseMethodDescriptor yX5_holds.desc).map (fun d => d.parameters.length) = some 2 := by decide +kernel
theorem mok_Matcher_holds : MOK m_Matcher_holds := ⟨by decide +kernel, by decide, cd_Matcher_holds, pg_Matcher_holds⟩
theorem gf_Matcher_59_38 : GF "LibraryDesk$Matche\x72" "LibraryDesk$PatternThing" "LibraryDesk" 59 2 327 38 := ⟨RX28, TX28, 13, 5, by decide, clr_38, in_X28, by decide, rfl, Or.inr nw1657, rfl⟩
theorem gf_Matcher_62_38 : GF "LibraryDesk$Matche\x72" "LibraryDesk$PatternThing" "LibraryDesk" 62 2 328 38 := ⟨RX28, TX28, 13, 6, by decide, clr_38, in_X28, by decide, rfl, Or.inr nw1659, rfl⟩
theorem hdd_Matcher_push_ : yX5_push.cls ≠ "java/lang/invoke/MethodHandle" ∧ yX5_push.cls ≠ "java/lang/invoke/VarHandle" ∧ (parseMethodDescriptor yX5_push.desc).map (fun d => d.parameters.length) = some 1 := by decide +kernel
theorem mok_Matcher_push : MOK m_Matcher_push := ⟨by decide +kernel, by decide, cd_Matcher_push, pg_Matcher_push⟩
theorem hdd_Matcher_shorten_ : yX5_shorten.cls ≠ "java/lang/invoke/MethodHandle" ∧ yX5_shorten.cls ≠ "java/lang/invoke/VarHandle" ∧ (parseMethodDescriptor yX5_shorten.desc).map (fun d => d.parameters.length) = some 1 := by decide +kernel
theorem mok_Matcher_shorten : MOK m_Matcher_shorten := ⟨by decide +kernel, by decide, cd_Matcher_shorten, pg_Matcher_shorten⟩
theorem gf_Matcher_28_15 : GF "LibraryDesk$Matche\x72" "LibraryDesk$Matche\x72" "LibraryDesk" 28 2 49 15 := ⟨RX5, TX5, 11, 8, by decide, clr_15, in_X5, by decide, rfl, Or.inl q684, rfl⟩
theorem hdd_TextThing_get_ : yX27_get.cls ≠ "java/lang/invoke/MethodHandle" ∧ yX27_get.cls ≠ "java/lang/invoke/VarHandle" ∧ (parseMethodDescriptor yX27_get.desc).map (fun d => d.parameters.length) = some 1 := by decide +kernel
theorem mok_TextThing_get : MOK m_TextThing_get := ⟨by decide +kernel, by decide, cd_TextThing_get, pg_TextThing_get⟩
theorem hdd_PatternThing_isIn_ : yX28_isIn.cls ≠ "java/lang/invoke/MethodHandle" ∧ yX28_isIn.cls ≠ "java/lang/invoke/VarHandle" ∧ (parseMethodDescriptor yX28_isIn.desc).map (fun d => d.parameters.length) = some 2 := by decide +kernel
theorem mok_PatternThing_isIn : MOK m_PatternThing_isIn := ⟨by decide +kernel, by decide, cd_PatternThing_isIn, pg_PatternThing_isIn⟩
theorem hdd_Matcher_isWordAt_ : yX5_isWordAt.cls ≠ "java/lang/invoke/MethodHandle" ∧ yX5_isWordAt.cls ≠ "java/lang/invoke/VarHandle" ∧ (parseMethodDescriptor yX5_isWordAt.desc).map (fun d => d.parameters.length) = some 1 := by decide +kernel
theorem mok_Matcher_isWordAt : MOK m_Matcher_isWordAt := ⟨by decide +kernel, by decide, cd_Matcher_isWordAt, pg_Matcher_isWordAt⟩
theorem hdd_Matcher_checkForm_ : yX5_checkForm.cls ≠ "java/lang/invoke/MethodHandle" ∧ yX5_checkForm.cls ≠ "java/lang/invoke/VarHandle" ∧ (parseMethodDescriptor yX5_checkForm.desc).map (fun d => d.parameters.length) = some 2 := by decide +kernel
theorem mok_Matcher_checkForm : MOK m_Matcher_checkForm := ⟨by decide +kernel, by decide, cd_Matcher_checkForm, pg_Matcher_checkForm⟩
theorem pf_Matcher_154_15 {m : Nat} : PF m "LibraryDesk$Matche\x72" "LibraryDesk$Matche\x72" "LibraryDesk" 154 0 51 .int 15 := ⟨RX5, TX5, 11, 10, tyX5, by decide, clr_15, in_X5, tyX5_ok, nmX5, by decide, rfl, nd_15, Or.inl ⟨q686, rfl⟩, rfl, by decide +kernel⟩
theorem hdd_Matcher_makeAll_ : yX5_makeAll.cls ≠ "java/lang/invoke/MethodHandle" ∧ yX5_makeAll.cls ≠ "java/lang/invoke/VarHandle" ∧ (parseMethodDescriptor yX5_makeAll.desc).map (fun d => d.parameters.length) = some 2 := by decide +kernel
theorem mok_Matcher_makeAll : MOK m_Matcher_makeAll := ⟨by decide +kernel, by decide, cd_Matcher_makeAll, pg_Matcher_makeAll⟩
theorem hdd_Matcher_fill_ : yX5_fill.cls ≠ "java/lang/invoke/MethodHandle" ∧ yX5_fill.cls ≠ "java/lang/invoke/VarHandle" ∧ (parseMethodDescriptor yX5_fill.desc).map (fun d => d.parameters.length) = some 2 := by decide +kernel
theorem mok_Matcher_fill : MOK m_Matcher_fill := ⟨by decide +kernel, by decide, cd_Matcher_fill, pg_Matcher_fill⟩
theorem gf_Matcher_32_15 : GF "LibraryDesk$Matche\x72" "LibraryDesk$Matche\x72" "LibraryDesk" 32 2 50 15 := ⟨RX5, TX5, 11, 9, by decide, clr_15, in_X5, by decide, rfl, Or.inl q685, rfl⟩
theorem gf_Matcher_181_37 : GF "LibraryDesk$Matche\x72" "LibraryDesk$TextThing" "LibraryDesk" 181 2 322 37 := ⟨RX27, TX27, 4, 2, by decide, clr_37, in_X27, by decide, rfl, Or.inr nw1629, rfl⟩
theorem gf_Matcher_154_15 : GF "LibraryDesk$Matche\x72" "LibraryDesk$Matche\x72" "LibraryDesk" 154 0 51 15 := ⟨RX5, TX5, 11, 10, by decide, clr_15, in_X5, by decide, rfl, Or.inl q686, rfl⟩
theorem pf_Matcher_85_37 {m : Nat} : PF m "LibraryDesk$Matche\x72" "LibraryDesk$TextThing" "LibraryDesk" 85 0 323 .int 37 := ⟨RX27, TX27, 4, 3, tyX27, by decide, clr_37, in_X27, tyX27_ok, nmX27, by decide, rfl, nd_37, Or.inr (Or.inl ⟨nw1631, rfl⟩), rfl, by decide +kernel⟩
theorem bkf_Matcher_167_169 : BKF "LibraryDesk$Matche\x72" RX38 "LibraryDesk" TB48 cX38_init 48 365 167 169 := ⟨by decide, rfl, rfl, q3422, q3100, q561, q3109, q3110, Or.inr nw3423, by decide, by decide⟩
theorem hdd_Matcher_make_ : yX5_make.cls ≠ "java/lang/invoke/MethodHandle" ∧ yX5_make.cls ≠ "java/lang/invoke/VarHandle" ∧ (parseMethodDescriptor yX5_make.desc).map (fun d => d.parameters.length) = some 1 := by decide +kernel
theorem mok_Matcher_make : MOK m_Matcher_make := ⟨by decide +kernel, by decide, cd_Matcher_make, pg_Matcher_make⟩
theorem pf_Former_init_9_16 : PF m_Former_init "LibraryDesk$Forme\x72" "LibraryDesk$Forme\x72" "LibraryDesk" 9 2 63 (.array .byte) 16 := ⟨RX6, TX6, 13, 11, tyX6, by decide, clr_16, in_X6, tyX6_ok, nmX6, by decide, rfl, nd_16, Or.inr (Or.inr ⟨q732, rfl, rfl, rfl⟩), rfl, by decide +kernel⟩
theorem pf_Former_15_16 {m : Nat} : PF m "LibraryDesk$Forme\x72" "LibraryDesk$Forme\x72" "LibraryDesk" 15 0 54 .int 16 := ⟨RX6, TX6, 13, 2, tyX6, by decide, clr_16, in_X6, tyX6_ok, nmX6, by decide, rfl, nd_16, Or.inl ⟨q721, rfl⟩, rfl, by decide +kernel⟩
theorem gf_Former_19_16 : GF "LibraryDesk$Forme\x72" "LibraryDesk$Forme\x72" "LibraryDesk" 19 0 53 16 := ⟨RX6, TX6, 13, 1, by decide, clr_16, in_X6, by decide, rfl, Or.inl q719, rfl⟩
theorem gf_Former_15_16 : GF "LibraryDesk$Forme\x72" "LibraryDesk$Forme\x72" "LibraryDesk" 15 0 54 16 := ⟨RX6, TX6, 13, 2, by decide, clr_16, in_X6, by decide, rfl, Or.inl q721, rfl⟩
theorem gf_Former_22_16 : GF "LibraryDesk$Forme\x72" "LibraryDesk$Forme\x72" "LibraryDesk" 22 2 52 16 := ⟨RX6, TX6, 13, 0, by decide, clr_16, in_X6, by decide, rfl, Or.inl q717, rfl⟩
theorem hdd_Former_flags_ : yX6_flags.cls ≠ "java/lang/invoke/MethodHandle" ∧ yX6_flags.cls ≠ "java/lang/invoke/VarHandle" ∧ (parseMethodDescriptor yX6_flags.desc).map (fun d => d.parameters.length) = some 0 := by decide +kernel
theorem mok_Former_flags : MOK m_Former_flags := ⟨by decide +kernel, by decide, cd_Former_flags, pg_Former_flags⟩
theorem pf_Former_67_16 {m : Nat} : PF m "LibraryDesk$Forme\x72" "LibraryDesk$Forme\x72" "LibraryDesk" 67 0 61 .int 16 := ⟨RX6, TX6, 13, 9, tyX6, by decide, clr_16, in_X6, tyX6_ok, nmX6, by decide, rfl, nd_16, Or.inl ⟨q729, rfl⟩, rfl, by decide +kernel⟩
theorem pf_Former_64_16 {m : Nat} : PF m "LibraryDesk$Forme\x72" "LibraryDesk$Forme\x72" "LibraryDesk" 64 0 60 .int 16 := ⟨RX6, TX6, 13, 8, tyX6, by decide, clr_16, in_X6, tyX6_ok, nmX6, by decide, rfl, nd_16, Or.inl ⟨q728, rfl⟩, rfl, by decide +kernel⟩
theorem hdd_Former_number_ : yX6_number.cls ≠ "java/lang/invoke/MethodHandle" ∧ yX6_number.cls ≠ "java/lang/invoke/VarHandle" ∧ (parseMethodDescriptor yX6_number.desc).map (fun d => d.parameters.length) = some 0 := by decide +kernel
theorem mok_Former_number : MOK m_Former_number := ⟨by decide +kernel, by decide, cd_Former_number, pg_Former_number⟩
theorem hdd_Former_look_ : yX6_look.cls ≠ "java/lang/invoke/MethodHandle" ∧ yX6_look.cls ≠ "java/lang/invoke/VarHandle" ∧ (parseMethodDescriptor yX6_look.desc).map (fun d => d.parameters.length) = some 0 := by decide +kernel
theorem mok_Former_look : MOK m_Former_look := ⟨by decide +kernel, by decide, cd_Former_look, pg_Former_look⟩
theorem bkf_Former_25_27 : BKF "LibraryDesk$Forme\x72" RX38 "LibraryDesk" TB48 cX38_init 48 365 25 27 := ⟨by decide, rfl, rfl, q3464, q3100, q561, q3109, q3110, Or.inr nw3465, by decide, by decide⟩
theorem hdd_Former_isDigit_ : yX6_isDigit.cls ≠ "java/lang/invoke/MethodHandle" ∧ yX6_isDigit.cls ≠ "java/lang/invoke/VarHandle" ∧ (parseMethodDescriptor yX6_isDigit.desc).map (fun d => d.parameters.length) = some 1 := by decide +kernel
theorem mok_Former_isDigit : MOK m_Former_isDigit := ⟨by decide +kernel, by decide, cd_Former_isDigit, pg_Former_isDigit⟩
theorem pf_Former_70_16 {m : Nat} : PF m "LibraryDesk$Forme\x72" "LibraryDesk$Forme\x72" "LibraryDesk" 70 0 62 .int 16 := ⟨RX6, TX6, 13, 10, tyX6, by decide, clr_16, in_X6, tyX6_ok, nmX6, by decide, rfl, nd_16, Or.inl ⟨q730, rfl⟩, rfl, by decide +kernel⟩
theorem gf_Former_70_16 : GF "LibraryDesk$Forme\x72" "LibraryDesk$Forme\x72" "LibraryDesk" 70 0 62 16 := ⟨RX6, TX6, 13, 10, by decide, clr_16, in_X6, by decide, rfl, Or.inl q730, rfl⟩
theorem hdd_Former_isOdd_ : yX6_isOdd.cls ≠ "java/lang/invoke/MethodHandle" ∧ yX6_isOdd.cls ≠ "java/lang/invoke/VarHandle" ∧ (parseMethodDescriptor yX6_isOdd.desc).map (fun d => d.parameters.length) = some 0 := by decide +kernel
theorem mok_Former_isOdd : MOK m_Former_isOdd := ⟨by decide +kernel, by decide, cd_Former_isOdd, pg_Former_isOdd⟩
theorem pf_Former_30_16 {m : Nat} : PF m "LibraryDesk$Forme\x72" "LibraryDesk$Forme\x72" "LibraryDesk" 30 0 55 .boolean 16 := ⟨RX6, TX6, 13, 3, tyX6, by decide, clr_16, in_X6, tyX6_ok, nmX6, by decide, rfl, nd_16, Or.inl ⟨q723, rfl⟩, rfl, by decide +kernel⟩
theorem pf_Former_34_16 {m : Nat} : PF m "LibraryDesk$Forme\x72" "LibraryDesk$Forme\x72" "LibraryDesk" 34 0 56 .boolean 16 := ⟨RX6, TX6, 13, 4, tyX6, by decide, clr_16, in_X6, tyX6_ok, nmX6, by decide, rfl, nd_16, Or.inl ⟨q724, rfl⟩, rfl, by decide +kernel⟩
theorem pf_Former_37_16 {m : Nat} : PF m "LibraryDesk$Forme\x72" "LibraryDesk$Forme\x72" "LibraryDesk" 37 0 57 .boolean 16 := ⟨RX6, TX6, 13, 5, tyX6, by decide, clr_16, in_X6, tyX6_ok, nmX6, by decide, rfl, nd_16, Or.inl ⟨q725, rfl⟩, rfl, by decide +kernel⟩
theorem pf_Former_43_16 {m : Nat} : PF m "LibraryDesk$Forme\x72" "LibraryDesk$Forme\x72" "LibraryDesk" 43 0 59 .boolean 16 := ⟨RX6, TX6, 13, 7, tyX6, by decide, clr_16, in_X6, tyX6_ok, nmX6, by decide, rfl, nd_16, Or.inl ⟨q727, rfl⟩, rfl, by decide +kernel⟩
theorem pf_Former_40_16 {m : Nat} : PF m "LibraryDesk$Forme\x72" "LibraryDesk$Forme\x72" "LibraryDesk" 40 0 58 .boolean 16 := ⟨RX6, TX6, 13, 6, tyX6, by decide, clr_16, in_X6, tyX6_ok, nmX6, by decide, rfl, nd_16, Or.inl ⟨q726, rfl⟩, rfl, by decide +kernel⟩
theorem gf_Former_30_16 : GF "LibraryDesk$Forme\x72" "LibraryDesk$Forme\x72" "LibraryDesk" 30 0 55 16 := ⟨RX6, TX6, 13, 3, by decide, clr_16, in_X6, by decide, rfl, Or.inl q723, rfl⟩
theorem hdd_Former_flag_ : yX6_flag.cls ≠ "java/lang/invoke/MethodHandle" ∧ yX6_flag.cls ≠ "java/lang/invoke/VarHandle" ∧ (parseMethodDescriptor yX6_flag.desc).map (fun d => d.parameters.length) = some 1 := by decide +kernel
theorem mok_Former_flag : MOK m_Former_flag := ⟨by decide +kernel, by decide, cd_Former_flag, pg_Former_flag⟩
theorem gf_Former_34_16 : GF "LibraryDesk$Forme\x72" "LibraryDesk$Forme\x72" "LibraryDesk" 34 0 56 16 := ⟨RX6, TX6, 13, 4, by decide, clr_16, in_X6, by decide, rfl, Or.inl q724, rfl⟩
theorem gf_Former_37_16 : GF "LibraryDesk$Forme\x72" "LibraryDesk$Forme\x72" "LibraryDesk" 37 0 57 16 := ⟨RX6, TX6, 13, 5, by decide, clr_16, in_X6, by decide, rfl, Or.inl q725, rfl⟩
theorem gf_Former_40_16 : GF "LibraryDesk$Forme\x72" "LibraryDesk$Forme\x72" "LibraryDesk" 40 0 58 16 := ⟨RX6, TX6, 13, 6, by decide, clr_16, in_X6, by decide, rfl, Or.inl q726, rfl⟩
theorem gf_Former_43_16 : GF "LibraryDesk$Forme\x72" "LibraryDesk$Forme\x72" "LibraryDesk" 43 0 59 16 := ⟨RX6, TX6, 13, 7, by decide, clr_16, in_X6, by decide, rfl, Or.inl q727, rfl⟩
theorem gf_Former_64_16 : GF "LibraryDesk$Forme\x72" "LibraryDesk$Forme\x72" "LibraryDesk" 64 0 60 16 := ⟨RX6, TX6, 13, 8, by decide, clr_16, in_X6, by decide, rfl, Or.inl q728, rfl⟩
theorem gf_Former_67_16 : GF "LibraryDesk$Forme\x72" "LibraryDesk$Forme\x72" "LibraryDesk" 67 0 61 16 := ⟨RX6, TX6, 13, 9, by decide, clr_16, in_X6, by decide, rfl, Or.inl q729, rfl⟩
theorem pf_Former_79_16 {m : Nat} : PF m "LibraryDesk$Forme\x72" "LibraryDesk$Forme\x72" "LibraryDesk" 79 0 64 .int 16 := ⟨RX6, TX6, 13, 12, tyX6, by decide, clr_16, in_X6, tyX6_ok, nmX6, by decide, rfl, nd_16, Or.inl ⟨q733, rfl⟩, rfl, by decide +kernel⟩
theorem gf_Former_122_37 : GF "LibraryDesk$Forme\x72" "LibraryDesk$TextThing" "LibraryDesk" 122 0 323 37 := ⟨RX27, TX27, 4, 3, by decide, clr_37, in_X27, by decide, rfl, Or.inr nw1632, rfl⟩
theorem hdd_Former_put_ : yX6_put.cls ≠ "java/lang/invoke/MethodHandle" ∧ yX6_put.cls ≠ "java/lang/invoke/VarHandle" ∧ (parseMethodDescriptor yX6_put.desc).map (fun d => d.parameters.length) = some 1 := by decide +kernel
theorem mok_Former_put : MOK m_Former_put := ⟨by decide +kernel, by decide, cd_Former_put, pg_Former_put⟩
theorem hdd_Former_shorten_ : yX6_shorten.cls ≠ "java/lang/invoke/MethodHandle" ∧ yX6_shorten.cls ≠ "java/lang/invoke/VarHandle" ∧ (parseMethodDescriptor yX6_shorten.desc).map (fun d => d.parameters.length) = some 0 := by decide +kernel
theorem mok_Former_shorten : MOK m_Former_shorten := ⟨by decide +kernel, by decide, cd_Former_shorten, pg_Former_shorten⟩
theorem hdd_Former_write_ : yX6_write.cls ≠ "java/lang/invoke/MethodHandle" ∧ yX6_write.cls ≠ "java/lang/invoke/VarHandle" ∧ (parseMethodDescriptor yX6_write.desc).map (fun d => d.parameters.length) = some 2 := by decide +kernel
theorem mok_Former_write : MOK m_Former_write := ⟨by decide +kernel, by decide, cd_Former_write, pg_Former_write⟩
theorem gf_Former_9_16 : GF "LibraryDesk$Forme\x72" "LibraryDesk$Forme\x72" "LibraryDesk" 9 2 63 16 := ⟨RX6, TX6, 13, 11, by decide, clr_16, in_X6, by decide, rfl, Or.inl q732, rfl⟩
theorem gf_Former_79_16 : GF "LibraryDesk$Forme\x72" "LibraryDesk$Forme\x72" "LibraryDesk" 79 0 64 16 := ⟨RX6, TX6, 13, 12, by decide, clr_16, in_X6, by decide, rfl, Or.inl q733, rfl⟩
theorem srr_1 : ("LibraryDesk$Forme\x72", 110, "true", 1) ∈ srT := List.mem_of_getElem? (i := 1) rfl
theorem srr_0 : ("LibraryDesk$Forme\x72", 108, "false", 0) ∈ srT := List.mem_of_getElem? (i := 0) rfl
theorem hdd_Former_string_ : yX6_string.cls ≠ "java/lang/invoke/MethodHandle" ∧ yX6_string.cls ≠ "java/lang/invoke/VarHandle" ∧ (parseMethodDescriptor yX6_string.desc).map (fun d => d.parameters.length) = some 1 := by decide +kernel
theorem mok_Former_string : MOK m_Former_string := ⟨by decide +kernel, by decide, cd_Former_string, pg_Former_string⟩
theorem hdd_Former_number_2_ : yX6_number_2.cls ≠ "java/lang/invoke/MethodHandle" ∧ yX6_number_2.cls ≠ "java/lang/invoke/VarHandle" ∧ (parseMethodDescriptor yX6_number_2.desc).map (fun d => d.parameters.length) = some 2 := by decide +kernel
theorem mok_Former_number_2 : MOK m_Former_number_2 := ⟨by decide +kernel, by decide, cd_Former_number_2, pg_Former_number_2⟩
theorem hdd_Former_digits_ : yX6_digits.cls ≠ "java/lang/invoke/MethodHandle" ∧ yX6_digits.cls ≠ "java/lang/invoke/VarHandle" ∧ (parseMethodDescriptor yX6_digits.desc).map (fun d => d.parameters.length) = some 4 := by decide +kernel
theorem mok_Former_digits : MOK m_Former_digits := ⟨by decide +kernel, by decide, cd_Former_digits, pg_Former_digits⟩
theorem hdd_Big_init_ : yX8_init.cls ≠ "java/lang/invoke/MethodHandle" ∧ yX8_init.cls ≠ "java/lang/invoke/VarHandle" ∧ (parseMethodDescriptor yX8_init.desc).map (fun d => d.parameters.length) = some 0 := by decide +kernel
theorem mok_Big_init : MOK m_Big_init := ⟨by decide +kernel, by decide, cd_Big_init, pg_Big_init⟩
theorem nf_Reckoner_7 : NF "LibraryDesk$Reckone\x72" 7 18 3 := ⟨RX8, TX8, tyX8, by decide, clr_18, in_X8, tyX8_ok, q767, q768, q515, by decide +kernel⟩
theorem nd_17 : va_nd ((flT 17).map (·.2)) = true := by decide +kernel
theorem pf_Reckoner_init_10_17 : PF m_Reckoner_init "LibraryDesk$Reckone\x72" "LibraryDesk$Reckone\x72" "LibraryDesk" 10 2 65 (.object "LibraryDesk$Big") 17 := ⟨RX7, TX7, 9, 0, tyX7, by decide, clr_17, in_X7, tyX7_ok, nmX7, by decide, rfl, nd_17, Or.inr (Or.inr ⟨q791, rfl, rfl, rfl⟩), rfl, by decide +kernel⟩
theorem pf_Reckoner_init_16_17 : PF m_Reckoner_init "LibraryDesk$Reckone\x72" "LibraryDesk$Reckone\x72" "LibraryDesk" 16 2 66 (.object "LibraryDesk$Big") 17 := ⟨RX7, TX7, 9, 1, tyX7, by decide, clr_17, in_X7, tyX7_ok, nmX7, by decide, rfl, nd_17, Or.inr (Or.inr ⟨q793, rfl, rfl, rfl⟩), rfl, by decide +kernel⟩
theorem pf_Reckoner_init_19_17 : PF m_Reckoner_init "LibraryDesk$Reckone\x72" "LibraryDesk$Reckone\x72" "LibraryDesk" 19 2 67 (.object "LibraryDesk$Big") 17 := ⟨RX7, TX7, 9, 2, tyX7, by decide, clr_17, in_X7, tyX7_ok, nmX7, by decide, rfl, nd_17, Or.inr (Or.inr ⟨q795, rfl, rfl, rfl⟩), rfl, by decide +kernel⟩
theorem pf_Reckoner_init_22_17 : PF m_Reckoner_init "LibraryDesk$Reckone\x72" "LibraryDesk$Reckone\x72" "LibraryDesk" 22 2 68 (.object "LibraryDesk$Big") 17 := ⟨RX7, TX7, 9, 3, tyX7, by decide, clr_17, in_X7, tyX7_ok, nmX7, by decide, rfl, nd_17, Or.inr (Or.inr ⟨q796, rfl, rfl, rfl⟩), rfl, by decide +kernel⟩
theorem pf_Reckoner_init_25_17 : PF m_Reckoner_init "LibraryDesk$Reckone\x72" "LibraryDesk$Reckone\x72" "LibraryDesk" 25 2 69 (.object "LibraryDesk$Big") 17 := ⟨RX7, TX7, 9, 4, tyX7, by decide, clr_17, in_X7, tyX7_ok, nmX7, by decide, rfl, nd_17, Or.inr (Or.inr ⟨q797, rfl, rfl, rfl⟩), rfl, by decide +kernel⟩
theorem pf_Reckoner_init_28_17 : PF m_Reckoner_init "LibraryDesk$Reckone\x72" "LibraryDesk$Reckone\x72" "LibraryDesk" 28 2 70 (.object "LibraryDesk$Big") 17 := ⟨RX7, TX7, 9, 5, tyX7, by decide, clr_17, in_X7, tyX7_ok, nmX7, by decide, rfl, nd_17, Or.inr (Or.inr ⟨q798, rfl, rfl, rfl⟩), rfl, by decide +kernel⟩
theorem pf_Reckoner_init_31_17 : PF m_Reckoner_init "LibraryDesk$Reckone\x72" "LibraryDesk$Reckone\x72" "LibraryDesk" 31 2 71 (.object "LibraryDesk$Big") 17 := ⟨RX7, TX7, 9, 6, tyX7, by decide, clr_17, in_X7, tyX7_ok, nmX7, by decide, rfl, nd_17, Or.inr (Or.inr ⟨q799, rfl, rfl, rfl⟩), rfl, by decide +kernel⟩
theorem pf_Reckoner_init_34_17 : PF m_Reckoner_init "LibraryDesk$Reckone\x72" "LibraryDesk$Reckone\x72" "LibraryDesk" 34 2 72 (.object "LibraryDesk$Big") 17 := ⟨RX7, TX7, 9, 7, tyX7, by decide, clr_17, in_X7, tyX7_ok, nmX7, by decide, rfl, nd_17, Or.inr (Or.inr ⟨q800, rfl, rfl, rfl⟩), rfl, by decide +kernel⟩
theorem pf_Reckoner_init_37_17 : PF m_Reckoner_init "LibraryDesk$Reckone\x72" "LibraryDesk$Reckone\x72" "LibraryDesk" 37 2 73 (.object "LibraryDesk$Big") 17 := ⟨RX7, TX7, 9, 8, tyX7, by decide, clr_17, in_X7, tyX7_ok, nmX7, by decide, rfl, nd_17, Or.inr (Or.inr ⟨q801, rfl, rfl, rfl⟩), rfl, by decide +kernel⟩
theorem gf_Reckoner_31_17 : GF "LibraryDesk$Reckone\x72" "LibraryDesk$Reckone\x72" "LibraryDesk" 31 2 71 17 := ⟨RX7, TX7, 9, 6, by decide, clr_17, in_X7, by decide, rfl, Or.inl q799, rfl⟩
theorem hdd_Big_add_ : yX8_add.cls ≠ "java/lang/invoke/MethodHandle" ∧ yX8_add.cls ≠ "java/lang/invoke/VarHandle" ∧ (parseMethodDescriptor yX8_add.desc).map (fun d => d.parameters.length) = some 3 := by decide +kernel
theorem mok_Big_add : MOK m_Big_add := ⟨by decide +kernel, by decide, cd_Big_add, pg_Big_add⟩
theorem hdd_Big_multiply_ : yX8_multiply.cls ≠ "java/lang/invoke/MethodHandle" ∧ yX8_multiply.cls ≠ "java/lang/invoke/VarHandle" ∧ (parseMethodDescriptor yX8_multiply.desc).map (fun d => d.parameters.length) = some 2 := by decide +kernel
theorem mok_Big_multiply : MOK m_Big_multiply := ⟨by decide +kernel, by decide, cd_Big_multiply, pg_Big_multiply⟩
theorem hdd_Reckoner_divide_ : yX7_divide.cls ≠ "java/lang/invoke/MethodHandle" ∧ yX7_divide.cls ≠ "java/lang/invoke/VarHandle" ∧ (parseMethodDescriptor yX7_divide.desc).map (fun d => d.parameters.length) = some 2 := by decide +kernel
theorem mok_Reckoner_divide : MOK m_Reckoner_divide := ⟨by decide +kernel, by decide, cd_Reckoner_divide, pg_Reckoner_divide⟩
theorem gf_Reckoner_10_17 : GF "LibraryDesk$Reckone\x72" "LibraryDesk$Reckone\x72" "LibraryDesk" 10 2 65 17 := ⟨RX7, TX7, 9, 0, by decide, clr_17, in_X7, by decide, rfl, Or.inl q791, rfl⟩
theorem gf_Reckoner_16_17 : GF "LibraryDesk$Reckone\x72" "LibraryDesk$Reckone\x72" "LibraryDesk" 16 2 66 17 := ⟨RX7, TX7, 9, 1, by decide, clr_17, in_X7, by decide, rfl, Or.inl q793, rfl⟩
theorem hdd_Reckoner_mod_ : yX7_mod.cls ≠ "java/lang/invoke/MethodHandle" ∧ yX7_mod.cls ≠ "java/lang/invoke/VarHandle" ∧ (parseMethodDescriptor yX7_mod.desc).map (fun d => d.parameters.length) = some 2 := by decide +kernel
theorem mok_Reckoner_mod : MOK m_Reckoner_mod := ⟨by decide +kernel, by decide, cd_Reckoner_mod, pg_Reckoner_mod⟩
theorem hdd_Reckoner_gcd_ : yX7_gcd.cls ≠ "java/lang/invoke/MethodHandle" ∧ yX7_gcd.cls ≠ "java/lang/invoke/VarHandle" ∧ (parseMethodDescriptor yX7_gcd.desc).map (fun d => d.parameters.length) = some 2 := by decide +kernel
theorem mok_Reckoner_gcd : MOK m_Reckoner_gcd := ⟨by decide +kernel, by decide, cd_Reckoner_gcd, pg_Reckoner_gcd⟩
theorem hdd_Reckoner_power_ : yX7_power.cls ≠ "java/lang/invoke/MethodHandle" ∧ yX7_power.cls ≠ "java/lang/invoke/VarHandle" ∧ (parseMethodDescriptor yX7_power.desc).map (fun d => d.parameters.length) = some 2 := by decide +kernel
theorem mok_Reckoner_power : MOK m_Reckoner_power := ⟨by decide +kernel, by decide, cd_Reckoner_power, pg_Reckoner_power⟩
theorem hdd_Reckoner_small_ : yX7_small.cls ≠ "java/lang/invoke/MethodHandle" ∧ yX7_small.cls ≠ "java/lang/invoke/VarHandle" ∧ (parseMethodDescriptor yX7_small.desc).map (fun d => d.parameters.length) = some 3 := by decide +kernel
theorem mok_Reckoner_small : MOK m_Reckoner_small := ⟨by decide +kernel, by decide, cd_Reckoner_small, pg_Reckoner_small⟩
theorem hdd_Reckoner_powerMod_ : yX7_powerMod.cls ≠ "java/lang/invoke/MethodHandle" ∧ yX7_powerMod.cls ≠ "java/lang/invoke/VarHandle" ∧ (parseMethodDescriptor yX7_powerMod.desc).map (fun d => d.parameters.length) = some 3 := by decide +kernel
theorem mok_Reckoner_powerMod : MOK m_Reckoner_powerMod := ⟨by decide +kernel, by decide, cd_Reckoner_powerMod, pg_Reckoner_powerMod⟩
theorem hdd_Reckoner_root_ : yX7_root.cls ≠ "java/lang/invoke/MethodHandle" ∧ yX7_root.cls ≠ "java/lang/invoke/VarHandle" ∧ (parseMethodDescriptor yX7_root.desc).map (fun d => d.parameters.length) = some 1 := by decide +kernel
theorem mok_Reckoner_root : MOK m_Reckoner_root := ⟨by decide +kernel, by decide, cd_Reckoner_root, pg_Reckoner_root⟩
theorem hdd_Reckoner_shift_ : yX7_shift.cls ≠ "java/lang/invoke/MethodHandle" ∧ yX7_shift.cls ≠ "java/lang/invoke/VarHandle" ∧ (parseMethodDescriptor yX7_shift.desc).map (fun d => d.parameters.length) = some 2 := by decide +kernel
theorem mok_Reckoner_shift : MOK m_Reckoner_shift := ⟨by decide +kernel, by decide, cd_Reckoner_shift, pg_Reckoner_shift⟩
theorem hdd_Big_logic_ : yX8_logic.cls ≠ "java/lang/invoke/MethodHandle" ∧ yX8_logic.cls ≠ "java/lang/invoke/VarHandle" ∧ (parseMethodDescriptor yX8_logic.desc).map (fun d => d.parameters.length) = some 3 := by decide +kernel
theorem mok_Big_logic : MOK m_Big_logic := ⟨by decide +kernel, by decide, cd_Big_logic, pg_Big_logic⟩
theorem gf_Reckoner_50_18 : GF "LibraryDesk$Reckone\x72" "LibraryDesk$Big" "LibraryDesk" 50 0 75 18 := ⟨RX8, TX8, 3, 1, by decide, clr_18, in_X8, by decide, rfl, Or.inr nw777, rfl⟩
theorem gf_Reckoner_54_18 : GF "LibraryDesk$Reckone\x72" "LibraryDesk$Big" "LibraryDesk" 54 2 74 18 := ⟨RX8, TX8, 3, 0, by decide, clr_18, in_X8, by decide, rfl, Or.inr nw774, rfl⟩
theorem gf_Reckoner_62_18 : GF "LibraryDesk$Reckone\x72" "LibraryDesk$Big" "LibraryDesk" 62 0 76 18 := ⟨RX8, TX8, 3, 2, by decide, clr_18, in_X8, by decide, rfl, Or.inr nw780, rfl⟩
theorem hdd_Big_over_ : yX8_over.cls ≠ "java/lang/invoke/MethodHandle" ∧ yX8_over.cls ≠ "java/lang/invoke/VarHandle" ∧ (parseMethodDescriptor yX8_over.desc).map (fun d => d.parameters.length) = some 1 := by decide +kernel
theorem mok_Big_over : MOK m_Big_over := ⟨by decide +kernel, by decide, cd_Big_over, pg_Big_over⟩
theorem nd_18 : va_nd ((flT 18).map (·.2)) = true := by decide +kernel
theorem pf_Reckoner_62_18 {m : Nat} : PF m "LibraryDesk$Reckone\x72" "LibraryDesk$Big" "LibraryDesk" 62 0 76 .boolean 18 := ⟨RX8, TX8, 3, 2, tyX8, by decide, clr_18, in_X8, tyX8_ok, nmX8, by decide, rfl, nd_18, Or.inr (Or.inl ⟨nw780, rfl⟩), rfl, by decide +kernel⟩
theorem hdd_Reckoner_byWords_ : yX7_byWords.cls ≠ "java/lang/invoke/MethodHandle" ∧ yX7_byWords.cls ≠ "java/lang/invoke/VarHandle" ∧ (parseMethodDescriptor yX7_byWords.desc).map (fun d => d.parameters.length) = some 2 := by decide +kernel
theorem mok_Reckoner_byWords : MOK m_Reckoner_byWords := ⟨by decide +kernel, by decide, cd_Reckoner_byWords, pg_Reckoner_byWords⟩
theorem hdd_Big_trim_ : yX8_trim.cls ≠ "java/lang/invoke/MethodHandle" ∧ yX8_trim.cls ≠ "java/lang/invoke/VarHandle" ∧ (parseMethodDescriptor yX8_trim.desc).map (fun d => d.parameters.length) = some 0 := by decide +kernel
theorem mok_Big_trim : MOK m_Big_trim := ⟨by decide +kernel, by decide, cd_Big_trim, pg_Big_trim⟩
theorem hdd_Big_compareSizes_ : yX8_compareSizes.cls ≠ "java/lang/invoke/MethodHandle" ∧ yX8_compareSizes.cls ≠ "java/lang/invoke/VarHandle" ∧ (parseMethodDescriptor yX8_compareSizes.desc).map (fun d => d.parameters.length) = some 2 := by decide +kernel
theorem mok_Big_compareSizes : MOK m_Big_compareSizes := ⟨by decide +kernel, by decide, cd_Big_compareSizes, pg_Big_compareSizes⟩
theorem gf_Reckoner_34_17 : GF "LibraryDesk$Reckone\x72" "LibraryDesk$Reckone\x72" "LibraryDesk" 34 2 72 17 := ⟨RX7, TX7, 9, 7, by decide, clr_17, in_X7, by decide, rfl, Or.inl q800, rfl⟩
theorem hdd_Big_shiftLeft_ : yX8_shiftLeft.cls ≠ "java/lang/invoke/MethodHandle" ∧ yX8_shiftLeft.cls ≠ "java/lang/invoke/VarHandle" ∧ (parseMethodDescriptor yX8_shiftLeft.desc).map (fun d => d.parameters.length) = some 1 := by decide +kernel
theorem mok_Big_shiftLeft : MOK m_Big_shiftLeft := ⟨by decide +kernel, by decide, cd_Big_shiftLeft, pg_Big_shiftLeft⟩
theorem gf_Reckoner_37_17 : GF "LibraryDesk$Reckone\x72" "LibraryDesk$Reckone\x72" "LibraryDesk" 37 2 73 17 := ⟨RX7, TX7, 9, 8, by decide, clr_17, in_X7, by decide, rfl, Or.inl q801, rfl⟩
theorem hdd_Reckoner_over_ : yX7_over.cls ≠ "java/lang/invoke/MethodHandle" ∧ yX7_over.cls ≠ "java/lang/invoke/VarHandle" ∧ (parseMethodDescriptor yX7_over.desc).map (fun d => d.parameters.length) = some 2 := by decide +kernel
theorem mok_Reckoner_over : MOK m_Reckoner_over := ⟨by decide +kernel, by decide, cd_Reckoner_over, pg_Reckoner_over⟩
theorem hdd_Reckoner_above_ : yX7_above.cls ≠ "java/lang/invoke/MethodHandle" ∧ yX7_above.cls ≠ "java/lang/invoke/VarHandle" ∧ (parseMethodDescriptor yX7_above.desc).map (fun d => d.parameters.length) = some 2 := by decide +kernel
theorem mok_Reckoner_above : MOK m_Reckoner_above := ⟨by decide +kernel, by decide, cd_Reckoner_above, pg_Reckoner_above⟩
theorem hdd_Reckoner_take_ : yX7_take.cls ≠ "java/lang/invoke/MethodHandle" ∧ yX7_take.cls ≠ "java/lang/invoke/VarHandle" ∧ (parseMethodDescriptor yX7_take.desc).map (fun d => d.parameters.length) = some 3 := by decide +kernel
theorem mok_Reckoner_take : MOK m_Reckoner_take := ⟨by decide +kernel, by decide, cd_Reckoner_take, pg_Reckoner_take⟩
theorem hdd_Reckoner_giveBack_ : yX7_giveBack.cls ≠ "java/lang/invoke/MethodHandle" ∧ yX7_giveBack.cls ≠ "java/lang/invoke/VarHandle" ∧ (parseMethodDescriptor yX7_giveBack.desc).map (fun d => d.parameters.length) = some 2 := by decide +kernel
theorem mok_Reckoner_giveBack : MOK m_Reckoner_giveBack := ⟨by decide +kernel, by decide, cd_Reckoner_giveBack, pg_Reckoner_giveBack⟩
theorem pf_Reckoner_50_18 {m : Nat} : PF m "LibraryDesk$Reckone\x72" "LibraryDesk$Big" "LibraryDesk" 50 0 75 .int 18 := ⟨RX8, TX8, 3, 1, tyX8, by decide, clr_18, in_X8, tyX8_ok, nmX8, by decide, rfl, nd_18, Or.inr (Or.inl ⟨nw777, rfl⟩), rfl, by decide +kernel⟩
theorem hdd_Big_shiftRight_ : yX8_shiftRight.cls ≠ "java/lang/invoke/MethodHandle" ∧ yX8_shiftRight.cls ≠ "java/lang/invoke/VarHandle" ∧ (parseMethodDescriptor yX8_shiftRight.desc).map (fun d => d.parameters.length) = some 1 := by decide +kernel
theorem mok_Big_shiftRight : MOK m_Big_shiftRight := ⟨by decide +kernel, by decide, cd_Big_shiftRight, pg_Big_shiftRight⟩
theorem gf_Reckoner_19_17 : GF "LibraryDesk$Reckone\x72" "LibraryDesk$Reckone\x72" "LibraryDesk" 19 2 67 17 := ⟨RX7, TX7, 9, 2, by decide, clr_17, in_X7, by decide, rfl, Or.inl q795, rfl⟩
theorem gf_Reckoner_22_17 : GF "LibraryDesk$Reckone\x72" "LibraryDesk$Reckone\x72" "LibraryDesk" 22 2 68 17 := ⟨RX7, TX7, 9, 3, by decide, clr_17, in_X7, by decide, rfl, Or.inl q796, rfl⟩
theorem gf_Reckoner_25_17 : GF "LibraryDesk$Reckone\x72" "LibraryDesk$Reckone\x72" "LibraryDesk" 25 2 69 17 := ⟨RX7, TX7, 9, 4, by decide, clr_17, in_X7, by decide, rfl, Or.inl q797, rfl⟩
theorem gf_Reckoner_28_17 : GF "LibraryDesk$Reckone\x72" "LibraryDesk$Reckone\x72" "LibraryDesk" 28 2 70 17 := ⟨RX7, TX7, 9, 5, by decide, clr_17, in_X7, by decide, rfl, Or.inl q798, rfl⟩
theorem hdd_Big_times_ : yX8_times.cls ≠ "java/lang/invoke/MethodHandle" ∧ yX8_times.cls ≠ "java/lang/invoke/VarHandle" ∧ (parseMethodDescriptor yX8_times.desc).map (fun d => d.parameters.length) = some 2 := by decide +kernel
theorem mok_Big_times : MOK m_Big_times := ⟨by decide +kernel, by decide, cd_Big_times, pg_Big_times⟩
theorem pf_Big_init_9_18 : PF m_Big_init "LibraryDesk$Big" "LibraryDesk$Big" "LibraryDesk" 9 2 74 (.array .int) 18 := ⟨RX8, TX8, 3, 0, tyX8, by decide, clr_18, in_X8, tyX8_ok, nmX8, by decide, rfl, nd_18, Or.inr (Or.inr ⟨q773, rfl, rfl, rfl⟩), rfl, by decide +kernel⟩
theorem pf_Big_13_18 {m : Nat} : PF m "LibraryDesk$Big" "LibraryDesk$Big" "LibraryDesk" 13 0 75 .int 18 := ⟨RX8, TX8, 3, 1, tyX8, by decide, clr_18, in_X8, tyX8_ok, nmX8, by decide, rfl, nd_18, Or.inl ⟨q776, rfl⟩, rfl, by decide +kernel⟩
theorem pf_Big_17_18 {m : Nat} : PF m "LibraryDesk$Big" "LibraryDesk$Big" "LibraryDesk" 17 0 76 .boolean 18 := ⟨RX8, TX8, 3, 2, tyX8, by decide, clr_18, in_X8, tyX8_ok, nmX8, by decide, rfl, nd_18, Or.inl ⟨q779, rfl⟩, rfl, by decide +kernel⟩
theorem gf_Big_17_18 : GF "LibraryDesk$Big" "LibraryDesk$Big" "LibraryDesk" 17 0 76 18 := ⟨RX8, TX8, 3, 2, by decide, clr_18, in_X8, by decide, rfl, Or.inl q779, rfl⟩
theorem gf_Big_9_18 : GF "LibraryDesk$Big" "LibraryDesk$Big" "LibraryDesk" 9 2 74 18 := ⟨RX8, TX8, 3, 0, by decide, clr_18, in_X8, by decide, rfl, Or.inl q773, rfl⟩
theorem gf_Big_13_18 : GF "LibraryDesk$Big" "LibraryDesk$Big" "LibraryDesk" 13 0 75 18 := ⟨RX8, TX8, 3, 1, by decide, clr_18, in_X8, by decide, rfl, Or.inl q776, rfl⟩
theorem hdd_Big_addSizes_ : yX8_addSizes.cls ≠ "java/lang/invoke/MethodHandle" ∧ yX8_addSizes.cls ≠ "java/lang/invoke/VarHandle" ∧ (parseMethodDescriptor yX8_addSizes.desc).map (fun d => d.parameters.length) = some 2 := by decide +kernel
theorem mok_Big_addSizes : MOK m_Big_addSizes := ⟨by decide +kernel, by decide, cd_Big_addSizes, pg_Big_addSizes⟩
theorem hdd_Big_takeSizes_ : yX8_takeSizes.cls ≠ "java/lang/invoke/MethodHandle" ∧ yX8_takeSizes.cls ≠ "java/lang/invoke/VarHandle" ∧ (parseMethodDescriptor yX8_takeSizes.desc).map (fun d => d.parameters.length) = some 2 := by decide +kernel
theorem mok_Big_takeSizes : MOK m_Big_takeSizes := ⟨by decide +kernel, by decide, cd_Big_takeSizes, pg_Big_takeSizes⟩
theorem nd_19 : va_nd ((flT 19).map (·.2)) = true := by decide +kernel
theorem pf_Decimals_init_10_19 : PF m_Decimals_init "LibraryDesk$Decimals" "LibraryDesk$Decimals" "LibraryDesk" 10 2 78 (.object "LibraryDesk$Big") 19 := ⟨RX9, TX9, 7, 1, tyX9, by decide, clr_19, in_X9, tyX9_ok, nmX9, by decide, rfl, nd_19, Or.inr (Or.inr ⟨q830, rfl, rfl, rfl⟩), rfl, by decide +kernel⟩
theorem nf_Decimals_7 : NF "LibraryDesk$Decimals" 7 18 3 := ⟨RX8, TX8, tyX8, by decide, clr_18, in_X8, tyX8_ok, q827, q768, q515, by decide +kernel⟩
theorem pf_Decimals_init_16_19 : PF m_Decimals_init "LibraryDesk$Decimals" "LibraryDesk$Decimals" "LibraryDesk" 16 2 79 (.object "LibraryDesk$Big") 19 := ⟨RX9, TX9, 7, 2, tyX9, by decide, clr_19, in_X9, tyX9_ok, nmX9, by decide, rfl, nd_19, Or.inr (Or.inr ⟨q831, rfl, rfl, rfl⟩), rfl, by decide +kernel⟩
theorem pf_Decimals_init_19_19 : PF m_Decimals_init "LibraryDesk$Decimals" "LibraryDesk$Decimals" "LibraryDesk" 19 2 80 (.object "LibraryDesk$Big") 19 := ⟨RX9, TX9, 7, 3, tyX9, by decide, clr_19, in_X9, tyX9_ok, nmX9, by decide, rfl, nd_19, Or.inr (Or.inr ⟨q832, rfl, rfl, rfl⟩), rfl, by decide +kernel⟩
theorem pf_Decimals_init_22_19 : PF m_Decimals_init "LibraryDesk$Decimals" "LibraryDesk$Decimals" "LibraryDesk" 22 2 81 (.object "LibraryDesk$Big") 19 := ⟨RX9, TX9, 7, 4, tyX9, by decide, clr_19, in_X9, tyX9_ok, nmX9, by decide, rfl, nd_19, Or.inr (Or.inr ⟨q833, rfl, rfl, rfl⟩), rfl, by decide +kernel⟩
theorem pf_Decimals_init_25_19 : PF m_Decimals_init "LibraryDesk$Decimals" "LibraryDesk$Decimals" "LibraryDesk" 25 2 82 (.object "LibraryDesk$Big") 19 := ⟨RX9, TX9, 7, 5, tyX9, by decide, clr_19, in_X9, tyX9_ok, nmX9, by decide, rfl, nd_19, Or.inr (Or.inr ⟨q834, rfl, rfl, rfl⟩), rfl, by decide +kernel⟩
theorem pf_Decimals_init_28_19 : PF m_Decimals_init "LibraryDesk$Decimals" "LibraryDesk$Decimals" "LibraryDesk" 28 2 77 (.object "LibraryDesk$Reckone\x72") 19 := ⟨RX9, TX9, 7, 0, tyX9, by decide, clr_19, in_X9, tyX9_ok, nmX9, by decide, rfl, nd_19, Or.inr (Or.inr ⟨q829, rfl, rfl, rfl⟩), rfl, by decide +kernel⟩
theorem gf_Decimals_10_19 : GF "LibraryDesk$Decimals" "LibraryDesk$Decimals" "LibraryDesk" 10 2 78 19 := ⟨RX9, TX9, 7, 1, by decide, clr_19, in_X9, by decide, rfl, Or.inl q830, rfl⟩
theorem hdd_Decimals_align_ : yX9_align.cls ≠ "java/lang/invoke/MethodHandle" ∧ yX9_align.cls ≠ "java/lang/invoke/VarHandle" ∧ (parseMethodDescriptor yX9_align.desc).map (fun d => d.parameters.length) = some 2 := by decide +kernel
theorem mok_Decimals_align : MOK m_Decimals_align := ⟨by decide +kernel, by decide, cd_Decimals_align, pg_Decimals_align⟩
theorem gf_Decimals_16_19 : GF "LibraryDesk$Decimals" "LibraryDesk$Decimals" "LibraryDesk" 16 2 79 19 := ⟨RX9, TX9, 7, 2, by decide, clr_19, in_X9, by decide, rfl, Or.inl q831, rfl⟩
theorem gf_Decimals_41_42 : GF "LibraryDesk$Decimals" "LibraryDesk$DecimalThing" "LibraryDesk" 41 0 345 42 := ⟨RX32, TX32, 4, 3, by decide, clr_42, in_X32, by decide, rfl, Or.inr nw1767, rfl⟩
theorem pf_Decimals_47_19 {m : Nat} : PF m "LibraryDesk$Decimals" "LibraryDesk$Decimals" "LibraryDesk" 47 0 83 .int 19 := ⟨RX9, TX9, 7, 6, tyX9, by decide, clr_19, in_X9, tyX9_ok, nmX9, by decide, rfl, nd_19, Or.inl ⟨q835, rfl⟩, rfl, by decide +kernel⟩
theorem gf_Decimals_48_42 : GF "LibraryDesk$Decimals" "LibraryDesk$DecimalThing" "LibraryDesk" 48 2 344 42 := ⟨RX32, TX32, 4, 2, by decide, clr_42, in_X32, by decide, rfl, Or.inr nw1764, rfl⟩
theorem hdd_Decimals_over_ : yX9_over.cls ≠ "java/lang/invoke/MethodHandle" ∧ yX9_over.cls ≠ "java/lang/invoke/VarHandle" ∧ (parseMethodDescriptor yX9_over.desc).map (fun d => d.parameters.length) = some 4 := by decide +kernel
theorem mok_Decimals_over : MOK m_Decimals_over := ⟨by decide +kernel, by decide, cd_Decimals_over, pg_Decimals_over⟩
theorem hdd_Decimals_toScale_ : yX9_toScale.cls ≠ "java/lang/invoke/MethodHandle" ∧ yX9_toScale.cls ≠ "java/lang/invoke/VarHandle" ∧ (parseMethodDescriptor yX9_toScale.desc).map (fun d => d.parameters.length) = some 3 := by decide +kernel
theorem mok_Decimals_toScale : MOK m_Decimals_toScale := ⟨by decide +kernel, by decide, cd_Decimals_toScale, pg_Decimals_toScale⟩
theorem hdd_Decimals_shorten_ : yX9_shorten.cls ≠ "java/lang/invoke/MethodHandle" ∧ yX9_shorten.cls ≠ "java/lang/invoke/VarHandle" ∧ (parseMethodDescriptor yX9_shorten.desc).map (fun d => d.parameters.length) = some 3 := by decide +kernel
theorem mok_Decimals_shorten : MOK m_Decimals_shorten := ⟨by decide +kernel, by decide, cd_Decimals_shorten, pg_Decimals_shorten⟩
theorem hdd_Decimals_strip_ : yX9_strip.cls ≠ "java/lang/invoke/MethodHandle" ∧ yX9_strip.cls ≠ "java/lang/invoke/VarHandle" ∧ (parseMethodDescriptor yX9_strip.desc).map (fun d => d.parameters.length) = some 1 := by decide +kernel
theorem mok_Decimals_strip : MOK m_Decimals_strip := ⟨by decide +kernel, by decide, cd_Decimals_strip, pg_Decimals_strip⟩
theorem gf_Decimals_28_19 : GF "LibraryDesk$Decimals" "LibraryDesk$Decimals" "LibraryDesk" 28 2 77 19 := ⟨RX9, TX9, 7, 0, by decide, clr_19, in_X9, by decide, rfl, Or.inl q829, rfl⟩
theorem gf_Decimals_55_17 : GF "LibraryDesk$Decimals" "LibraryDesk$Reckone\x72" "LibraryDesk" 55 2 66 17 := ⟨RX7, TX7, 9, 1, by decide, clr_17, in_X7, by decide, rfl, Or.inr nw794, rfl⟩
theorem gf_Decimals_47_19 : GF "LibraryDesk$Decimals" "LibraryDesk$Decimals" "LibraryDesk" 47 0 83 19 := ⟨RX9, TX9, 7, 6, by decide, clr_19, in_X9, by decide, rfl, Or.inl q835, rfl⟩
theorem pf_Decimals_41_42 {m : Nat} : PF m "LibraryDesk$Decimals" "LibraryDesk$DecimalThing" "LibraryDesk" 41 0 345 .int 42 := ⟨RX32, TX32, 4, 3, tyX32, by decide, clr_42, in_X32, tyX32_ok, nmX32, by decide, rfl, nd_42, Or.inr (Or.inl ⟨nw1767, rfl⟩), rfl, by decide +kernel⟩
theorem hdd_Decimals_raise_ : yX9_raise.cls ≠ "java/lang/invoke/MethodHandle" ∧ yX9_raise.cls ≠ "java/lang/invoke/VarHandle" ∧ (parseMethodDescriptor yX9_raise.desc).map (fun d => d.parameters.length) = some 3 := by decide +kernel
theorem mok_Decimals_raise : MOK m_Decimals_raise := ⟨by decide +kernel, by decide, cd_Decimals_raise, pg_Decimals_raise⟩
theorem hdd_Reckoner_ten_ : yX7_ten.cls ≠ "java/lang/invoke/MethodHandle" ∧ yX7_ten.cls ≠ "java/lang/invoke/VarHandle" ∧ (parseMethodDescriptor yX7_ten.desc).map (fun d => d.parameters.length) = some 2 := by decide +kernel
theorem mok_Reckoner_ten : MOK m_Reckoner_ten := ⟨by decide +kernel, by decide, cd_Reckoner_ten, pg_Reckoner_ten⟩
theorem gf_Decimals_22_19 : GF "LibraryDesk$Decimals" "LibraryDesk$Decimals" "LibraryDesk" 22 2 81 19 := ⟨RX9, TX9, 7, 4, by decide, clr_19, in_X9, by decide, rfl, Or.inl q833, rfl⟩
theorem hdd_Decimals_round_ : yX9_round.cls ≠ "java/lang/invoke/MethodHandle" ∧ yX9_round.cls ≠ "java/lang/invoke/VarHandle" ∧ (parseMethodDescriptor yX9_round.desc).map (fun d => d.parameters.length) = some 3 := by decide +kernel
theorem mok_Decimals_round : MOK m_Decimals_round := ⟨by decide +kernel, by decide, cd_Decimals_round, pg_Decimals_round⟩
theorem gf_Decimals_76_18 : GF "LibraryDesk$Decimals" "LibraryDesk$Big" "LibraryDesk" 76 0 76 18 := ⟨RX8, TX8, 3, 2, by decide, clr_18, in_X8, by decide, rfl, Or.inr nw782, rfl⟩
theorem hdd_Decimals_goesUp_ : yX9_goesUp.cls ≠ "java/lang/invoke/MethodHandle" ∧ yX9_goesUp.cls ≠ "java/lang/invoke/VarHandle" ∧ (parseMethodDescriptor yX9_goesUp.desc).map (fun d => d.parameters.length) = some 3 := by decide +kernel
theorem mok_Decimals_goesUp : MOK m_Decimals_goesUp := ⟨by decide +kernel, by decide, cd_Decimals_goesUp, pg_Decimals_goesUp⟩
theorem gf_Decimals_25_19 : GF "LibraryDesk$Decimals" "LibraryDesk$Decimals" "LibraryDesk" 25 2 82 19 := ⟨RX9, TX9, 7, 5, by decide, clr_19, in_X9, by decide, rfl, Or.inl q834, rfl⟩
theorem gf_Decimals_66_17 : GF "LibraryDesk$Decimals" "LibraryDesk$Reckone\x72" "LibraryDesk" 66 2 65 17 := ⟨RX7, TX7, 9, 0, by decide, clr_17, in_X7, by decide, rfl, Or.inr nw792, rfl⟩
theorem gf_Decimals_19_19 : GF "LibraryDesk$Decimals" "LibraryDesk$Decimals" "LibraryDesk" 19 2 80 19 := ⟨RX9, TX9, 7, 3, by decide, clr_19, in_X9, by decide, rfl, Or.inl q832, rfl⟩
theorem pf_Decimals_76_18 {m : Nat} : PF m "LibraryDesk$Decimals" "LibraryDesk$Big" "LibraryDesk" 76 0 76 .boolean 18 := ⟨RX8, TX8, 3, 2, tyX8, by decide, clr_18, in_X8, tyX8_ok, nmX8, by decide, rfl, nd_18, Or.inr (Or.inl ⟨nw782, rfl⟩), rfl, by decide +kernel⟩
theorem nd_20 : va_nd ((flT 20).map (·.2)) = true := by decide +kernel
theorem pf_Numerals_init_7_20 : PF m_Numerals_init "LibraryDesk$Numerals" "LibraryDesk$Numerals" "LibraryDesk" 7 2 84 (.array .byte) 20 := ⟨RX10, TX10, 3, 0, tyX10, by decide, clr_20, in_X10, tyX10_ok, nmX10, by decide, rfl, nd_20, Or.inr (Or.inr ⟨q859, rfl, rfl, rfl⟩), rfl, by decide +kernel⟩
theorem nf_Numerals_13 : NF "LibraryDesk$Numerals" 13 18 3 := ⟨RX8, TX8, tyX8, by decide, clr_18, in_X8, tyX8_ok, q857, q768, q515, by decide +kernel⟩
theorem pf_Numerals_init_16_20 : PF m_Numerals_init "LibraryDesk$Numerals" "LibraryDesk$Numerals" "LibraryDesk" 16 2 85 (.object "LibraryDesk$Big") 20 := ⟨RX10, TX10, 3, 1, tyX10, by decide, clr_20, in_X10, tyX10_ok, nmX10, by decide, rfl, nd_20, Or.inr (Or.inr ⟨q860, rfl, rfl, rfl⟩), rfl, by decide +kernel⟩
theorem gf_Numerals_16_20 : GF "LibraryDesk$Numerals" "LibraryDesk$Numerals" "LibraryDesk" 16 2 85 20 := ⟨RX10, TX10, 3, 1, by decide, clr_20, in_X10, by decide, rfl, Or.inl q860, rfl⟩
theorem hdd_Numerals_worth_ : yX10_worth.cls ≠ "java/lang/invoke/MethodHandle" ∧ yX10_worth.cls ≠ "java/lang/invoke/VarHandle" ∧ (parseMethodDescriptor yX10_worth.desc).map (fun d => d.parameters.length) = some 1 := by decide +kernel
theorem mok_Numerals_worth : MOK m_Numerals_worth := ⟨by decide +kernel, by decide, cd_Numerals_worth, pg_Numerals_worth⟩
theorem bkf_Numerals_27_29 : BKF "LibraryDesk$Numerals" RX38 "LibraryDesk" TB48 cX38_init 48 365 27 29 := ⟨by decide, rfl, rfl, q3865, q3100, q561, q3109, q3110, Or.inr nw3866, by decide, by decide⟩
theorem pf_Numerals_36_18 {m : Nat} : PF m "LibraryDesk$Numerals" "LibraryDesk$Big" "LibraryDesk" 36 0 76 .boolean 18 := ⟨RX8, TX8, 3, 2, tyX8, by decide, clr_18, in_X8, tyX8_ok, nmX8, by decide, rfl, nd_18, Or.inr (Or.inl ⟨nw781, rfl⟩), rfl, by decide +kernel⟩
theorem pf_Numerals_43_20 {m : Nat} : PF m "LibraryDesk$Numerals" "LibraryDesk$Numerals" "LibraryDesk" 43 0 86 .int 20 := ⟨RX10, TX10, 3, 2, tyX10, by decide, clr_20, in_X10, tyX10_ok, nmX10, by decide, rfl, nd_20, Or.inl ⟨q862, rfl⟩, rfl, by decide +kernel⟩
theorem hdd_Numerals_split_ : yX10_split.cls ≠ "java/lang/invoke/MethodHandle" ∧ yX10_split.cls ≠ "java/lang/invoke/VarHandle" ∧ (parseMethodDescriptor yX10_split.desc).map (fun d => d.parameters.length) = some 2 := by decide +kernel
theorem mok_Numerals_split : MOK m_Numerals_split := ⟨by decide +kernel, by decide, cd_Numerals_split, pg_Numerals_split⟩
theorem gf_Numerals_36_18 : GF "LibraryDesk$Numerals" "LibraryDesk$Big" "LibraryDesk" 36 0 76 18 := ⟨RX8, TX8, 3, 2, by decide, clr_18, in_X8, by decide, rfl, Or.inr nw781, rfl⟩
theorem gf_Numerals_7_20 : GF "LibraryDesk$Numerals" "LibraryDesk$Numerals" "LibraryDesk" 7 2 84 20 := ⟨RX10, TX10, 3, 0, by decide, clr_20, in_X10, by decide, rfl, Or.inl q859, rfl⟩
theorem gf_Numerals_70_42 : GF "LibraryDesk$Numerals" "LibraryDesk$DecimalThing" "LibraryDesk" 70 2 344 42 := ⟨RX32, TX32, 4, 2, by decide, clr_42, in_X32, by decide, rfl, Or.inr nw1765, rfl⟩
theorem gf_Numerals_75_42 : GF "LibraryDesk$Numerals" "LibraryDesk$DecimalThing" "LibraryDesk" 75 0 345 42 := ⟨RX32, TX32, 4, 3, by decide, clr_42, in_X32, by decide, rfl, Or.inr nw1768, rfl⟩
theorem clr_22 : clT[clI 22]? = some (RX12, TX12, 5) := rfl
theorem nf_Streamer_9 : NF "LibraryDesk$Streame\x72" 9 22 5 := ⟨RX12, TX12, tyX12, by decide, clr_22, in_X12, tyX12_ok, q877, q878, q519, by decide +kernel⟩
theorem pf_Streamer_init_14_21 : PF m_Streamer_init "LibraryDesk$Streame\x72" "LibraryDesk$Streame\x72" "LibraryDesk" 14 2 87 (.object "LibraryDesk$Words") 21 := ⟨RX11, TX11, 28, 0, tyX11, by decide, clr_21, in_X11, tyX11_ok, nmX11, by decide, rfl, nd_21, Or.inr (Or.inr ⟨q900, rfl, rfl, rfl⟩), rfl, by decide +kernel⟩
theorem hdd_Words_init_ : yX12_init.cls ≠ "java/lang/invoke/MethodHandle" ∧ yX12_init.cls ≠ "java/lang/invoke/VarHandle" ∧ (parseMethodDescriptor yX12_init.desc).map (fun d => d.parameters.length) = some 1 := by decide +kernel
theorem mok_Words_init : MOK m_Words_init := ⟨by decide +kernel, by decide, cd_Words_init, pg_Words_init⟩
theorem pf_Streamer_init_20_21 : PF m_Streamer_init "LibraryDesk$Streame\x72" "LibraryDesk$Streame\x72" "LibraryDesk" 20 2 93 (.array .int) 21 := ⟨RX11, TX11, 28, 6, tyX11, by decide, clr_21, in_X11, tyX11_ok, nmX11, by decide, rfl, nd_21, Or.inr (Or.inr ⟨q908, rfl, rfl, rfl⟩), rfl, by decide +kernel⟩
theorem pf_Streamer_init_27_21 : PF m_Streamer_init "LibraryDesk$Streame\x72" "LibraryDesk$Streame\x72" "LibraryDesk" 27 2 95 (.array .int) 21 := ⟨RX11, TX11, 28, 8, tyX11, by decide, clr_21, in_X11, tyX11_ok, nmX11, by decide, rfl, nd_21, Or.inr (Or.inr ⟨q910, rfl, rfl, rfl⟩), rfl, by decide +kernel⟩
theorem pf_Streamer_init_24_21 : PF m_Streamer_init "LibraryDesk$Streame\x72" "LibraryDesk$Streame\x72" "LibraryDesk" 24 2 94 (.array .int) 21 := ⟨RX11, TX11, 28, 7, tyX11, by decide, clr_21, in_X11, tyX11_ok, nmX11, by decide, rfl, nd_21, Or.inr (Or.inr ⟨q909, rfl, rfl, rfl⟩), rfl, by decide +kernel⟩
theorem pf_Streamer_init_30_21 : PF m_Streamer_init "LibraryDesk$Streame\x72" "LibraryDesk$Streame\x72" "LibraryDesk" 30 2 109 (.array .int) 21 := ⟨RX11, TX11, 28, 22, tyX11, by decide, clr_21, in_X11, tyX11_ok, nmX11, by decide, rfl, nd_21, Or.inr (Or.inr ⟨q930, rfl, rfl, rfl⟩), rfl, by decide +kernel⟩
theorem pf_Streamer_init_33_21 : PF m_Streamer_init "LibraryDesk$Streame\x72" "LibraryDesk$Streame\x72" "LibraryDesk" 33 2 110 (.array .boolean) 21 := ⟨RX11, TX11, 28, 23, tyX11, by decide, clr_21, in_X11, tyX11_ok, nmX11, by decide, rfl, nd_21, Or.inr (Or.inr ⟨q931, rfl, rfl, rfl⟩), rfl, by decide +kernel⟩
theorem pf_Streamer_init_37_21 : PF m_Streamer_init "LibraryDesk$Streame\x72" "LibraryDesk$Streame\x72" "LibraryDesk" 37 2 111 (.array .int) 21 := ⟨RX11, TX11, 28, 24, tyX11, by decide, clr_21, in_X11, tyX11_ok, nmX11, by decide, rfl, nd_21, Or.inr (Or.inr ⟨q932, rfl, rfl, rfl⟩), rfl, by decide +kernel⟩
theorem pf_Streamer_init_41_21 : PF m_Streamer_init "LibraryDesk$Streame\x72" "LibraryDesk$Streame\x72" "LibraryDesk" 41 2 112 (.array .int) 21 := ⟨RX11, TX11, 28, 25, tyX11, by decide, clr_21, in_X11, tyX11_ok, nmX11, by decide, rfl, nd_21, Or.inr (Or.inr ⟨q933, rfl, rfl, rfl⟩), rfl, by decide +kernel⟩
theorem pf_Streamer_init_44_21 : PF m_Streamer_init "LibraryDesk$Streame\x72" "LibraryDesk$Streame\x72" "LibraryDesk" 44 2 113 (.array .int) 21 := ⟨RX11, TX11, 28, 26, tyX11, by decide, clr_21, in_X11, tyX11_ok, nmX11, by decide, rfl, nd_21, Or.inr (Or.inr ⟨q934, rfl, rfl, rfl⟩), rfl, by decide +kernel⟩
theorem hdd_Words_begin_ : yX12_begin.cls ≠ "java/lang/invoke/MethodHandle" ∧ yX12_begin.cls ≠ "java/lang/invoke/VarHandle" ∧ (parseMethodDescriptor yX12_begin.desc).map (fun d => d.parameters.length) = some 2 := by decide +kernel
theorem mok_Words_begin : MOK m_Words_begin := ⟨by decide +kernel, by decide, cd_Words_begin, pg_Words_begin⟩
theorem gf_Streamer_14_21 : GF "LibraryDesk$Streame\x72" "LibraryDesk$Streame\x72" "LibraryDesk" 14 2 87 21 := ⟨RX11, TX11, 28, 0, by decide, clr_21, in_X11, by decide, rfl, Or.inl q900, rfl⟩
theorem hdd_Streamer_readSource_ : yX11_readSource.cls ≠ "java/lang/invoke/MethodHandle" ∧ yX11_readSource.cls ≠ "java/lang/invoke/VarHandle" ∧ (parseMethodDescriptor yX11_readSource.desc).map (fun d => d.parameters.length) = some 0 := by decide +kernel
theorem mok_Streamer_readSource : MOK m_Streamer_readSource := ⟨by decide +kernel, by decide, cd_Streamer_readSource, pg_Streamer_readSource⟩
theorem pf_Streamer_147_21 {m : Nat} : PF m "LibraryDesk$Streame\x72" "LibraryDesk$Streame\x72" "LibraryDesk" 147 0 96 .int 21 := ⟨RX11, TX11, 28, 9, tyX11, by decide, clr_21, in_X11, tyX11_ok, nmX11, by decide, rfl, nd_21, Or.inl ⟨q911, rfl⟩, rfl, by decide +kernel⟩
theorem hdd_Words_need_ : yX12_need.cls ≠ "java/lang/invoke/MethodHandle" ∧ yX12_need.cls ≠ "java/lang/invoke/VarHandle" ∧ (parseMethodDescriptor yX12_need.desc).map (fun d => d.parameters.length) = some 1 := by decide +kernel
theorem mok_Words_need : MOK m_Words_need := ⟨by decide +kernel, by decide, cd_Words_need, pg_Words_need⟩
theorem srr_40 : ("LibraryDesk$Streame\x72", 193, "|", 40) ∈ srT := List.mem_of_getElem? (i := 40) rfl
theorem hdd_Streamer_stageOf_ : yX11_stageOf.cls ≠ "java/lang/invoke/MethodHandle" ∧ yX11_stageOf.cls ≠ "java/lang/invoke/VarHandle" ∧ (parseMethodDescriptor yX11_stageOf.desc).map (fun d => d.parameters.length) = some 0 := by decide +kernel
theorem mok_Streamer_stageOf : MOK m_Streamer_stageOf := ⟨by decide +kernel, by decide, cd_Streamer_stageOf, pg_Streamer_stageOf⟩
theorem hdd_Streamer_readStage_ : yX11_readStage.cls ≠ "java/lang/invoke/MethodHandle" ∧ yX11_readStage.cls ≠ "java/lang/invoke/VarHandle" ∧ (parseMethodDescriptor yX11_readStage.desc).map (fun d => d.parameters.length) = some 1 := by decide +kernel
theorem mok_Streamer_readStage : MOK m_Streamer_readStage := ⟨by decide +kernel, by decide, cd_Streamer_readStage, pg_Streamer_readStage⟩
theorem hdd_Words_isEnd_ : yX12_isEnd.cls ≠ "java/lang/invoke/MethodHandle" ∧ yX12_isEnd.cls ≠ "java/lang/invoke/VarHandle" ∧ (parseMethodDescriptor yX12_isEnd.desc).map (fun d => d.parameters.length) = some 0 := by decide +kernel
theorem mok_Words_isEnd : MOK m_Words_isEnd := ⟨by decide +kernel, by decide, cd_Words_isEnd, pg_Words_isEnd⟩
theorem hdd_Streamer_readEnd_ : yX11_readEnd.cls ≠ "java/lang/invoke/MethodHandle" ∧ yX11_readEnd.cls ≠ "java/lang/invoke/VarHandle" ∧ (parseMethodDescriptor yX11_readEnd.desc).map (fun d => d.parameters.length) = some 0 := by decide +kernel
theorem mok_Streamer_readEnd : MOK m_Streamer_readEnd := ⟨by decide +kernel, by decide, cd_Streamer_readEnd, pg_Streamer_readEnd⟩
theorem hdd_Words_broken_ : yX12_broken.cls ≠ "java/lang/invoke/MethodHandle" ∧ yX12_broken.cls ≠ "java/lang/invoke/VarHandle" ∧ (parseMethodDescriptor yX12_broken.desc).map (fun d => d.parameters.length) = some 0 := by decide +kernel
theorem mok_Words_broken : MOK m_Words_broken := ⟨by decide +kernel, by decide, cd_Words_broken, pg_Words_broken⟩
theorem hdd_Words_is_ : yX12_is.cls ≠ "java/lang/invoke/MethodHandle" ∧ yX12_is.cls ≠ "java/lang/invoke/VarHandle" ∧ (parseMethodDescriptor yX12_is.desc).map (fun d => d.parameters.length) = some 1 := by decide +kernel
theorem mok_Words_is : MOK m_Words_is := ⟨by decide +kernel, by decide, cd_Words_is, pg_Words_is⟩
theorem srr_15 : ("LibraryDesk$Streame\x72", 98, "range", 15) ∈ srT := List.mem_of_getElem? (i := 15) rfl
theorem srr_16 : ("LibraryDesk$Streame\x72", 100, "list", 16) ∈ srT := List.mem_of_getElem? (i := 16) rfl
theorem srr_17 : ("LibraryDesk$Streame\x72", 102, "keys", 17) ∈ srT := List.mem_of_getElem? (i := 17) rfl
theorem srr_18 : ("LibraryDesk$Streame\x72", 104, "values", 18) ∈ srT := List.mem_of_getElem? (i := 18) rfl
theorem srr_19 : ("LibraryDesk$Streame\x72", 106, "iterate", 19) ∈ srT := List.mem_of_getElem? (i := 19) rfl
theorem pf_Streamer_108_21 {m : Nat} : PF m "LibraryDesk$Streame\x72" "LibraryDesk$Streame\x72" "LibraryDesk" 108 0 88 .int 21 := ⟨RX11, TX11, 28, 1, tyX11, by decide, clr_21, in_X11, tyX11_ok, nmX11, by decide, rfl, nd_21, Or.inl ⟨q901, rfl⟩, rfl, by decide +kernel⟩
theorem gf_Streamer_108_21 : GF "LibraryDesk$Streame\x72" "LibraryDesk$Streame\x72" "LibraryDesk" 108 0 88 21 := ⟨RX11, TX11, 28, 1, by decide, clr_21, in_X11, by decide, rfl, Or.inl q901, rfl⟩
theorem hdd_Words_next_ : yX12_next.cls ≠ "java/lang/invoke/MethodHandle" ∧ yX12_next.cls ≠ "java/lang/invoke/VarHandle" ∧ (parseMethodDescriptor yX12_next.desc).map (fun d => d.parameters.length) = some 0 := by decide +kernel
theorem mok_Words_next : MOK m_Words_next := ⟨by decide +kernel, by decide, cd_Words_next, pg_Words_next⟩
theorem hdd_Words_any_ : yX12_any.cls ≠ "java/lang/invoke/MethodHandle" ∧ yX12_any.cls ≠ "java/lang/invoke/VarHandle" ∧ (parseMethodDescriptor yX12_any.desc).map (fun d => d.parameters.length) = some 0 := by decide +kernel
theorem mok_Words_any : MOK m_Words_any := ⟨by decide +kernel, by decide, cd_Words_any, pg_Words_any⟩
theorem pf_Streamer_114_21 {m : Nat} : PF m "LibraryDesk$Streame\x72" "LibraryDesk$Streame\x72" "LibraryDesk" 114 0 89 .int 21 := ⟨RX11, TX11, 28, 2, tyX11, by decide, clr_21, in_X11, tyX11_ok, nmX11, by decide, rfl, nd_21, Or.inl ⟨q903, rfl⟩, rfl, by decide +kernel⟩
theorem hdd_Words_number_ : yX12_number.cls ≠ "java/lang/invoke/MethodHandle" ∧ yX12_number.cls ≠ "java/lang/invoke/VarHandle" ∧ (parseMethodDescriptor yX12_number.desc).map (fun d => d.parameters.length) = some 2 := by decide +kernel
theorem mok_Words_number : MOK m_Words_number := ⟨by decide +kernel, by decide, cd_Words_number, pg_Words_number⟩
theorem pf_Streamer_117_21 {m : Nat} : PF m "LibraryDesk$Streame\x72" "LibraryDesk$Streame\x72" "LibraryDesk" 117 0 90 .int 21 := ⟨RX11, TX11, 28, 3, tyX11, by decide, clr_21, in_X11, tyX11_ok, nmX11, by decide, rfl, nd_21, Or.inl ⟨q905, rfl⟩, rfl, by decide +kernel⟩
theorem hdd_Streamer_mapping_ : yX11_mapping.cls ≠ "java/lang/invoke/MethodHandle" ∧ yX11_mapping.cls ≠ "java/lang/invoke/VarHandle" ∧ (parseMethodDescriptor yX11_mapping.desc).map (fun d => d.parameters.length) = some 0 := by decide +kernel
theorem mok_Streamer_mapping : MOK m_Streamer_mapping := ⟨by decide +kernel, by decide, cd_Streamer_mapping, pg_Streamer_mapping⟩
theorem gf_Streamer_57_21 : GF "LibraryDesk$Streame\x72" "LibraryDesk$Streame\x72" "LibraryDesk" 57 0 100 21 := ⟨RX11, TX11, 28, 13, by decide, clr_21, in_X11, by decide, rfl, Or.inl q917, rfl⟩
theorem pf_Streamer_123_21 {m : Nat} : PF m "LibraryDesk$Streame\x72" "LibraryDesk$Streame\x72" "LibraryDesk" 123 0 91 .int 21 := ⟨RX11, TX11, 28, 4, tyX11, by decide, clr_21, in_X11, tyX11_ok, nmX11, by decide, rfl, nd_21, Or.inl ⟨q906, rfl⟩, rfl, by decide +kernel⟩
theorem pf_Streamer_126_21 {m : Nat} : PF m "LibraryDesk$Streame\x72" "LibraryDesk$Streame\x72" "LibraryDesk" 126 0 92 .int 21 := ⟨RX11, TX11, 28, 5, tyX11, by decide, clr_21, in_X11, tyX11_ok, nmX11, by decide, rfl, nd_21, Or.inl ⟨q907, rfl⟩, rfl, by decide +kernel⟩
theorem gf_Streamer_47_21 : GF "LibraryDesk$Streame\x72" "LibraryDesk$Streame\x72" "LibraryDesk" 47 0 101 21 := ⟨RX11, TX11, 28, 14, by decide, clr_21, in_X11, by decide, rfl, Or.inl q918, rfl⟩
theorem pf_Streamer_47_21 {m : Nat} : PF m "LibraryDesk$Streame\x72" "LibraryDesk$Streame\x72" "LibraryDesk" 47 0 101 .int 21 := ⟨RX11, TX11, 28, 14, tyX11, by decide, clr_21, in_X11, tyX11_ok, nmX11, by decide, rfl, nd_21, Or.inl ⟨q918, rfl⟩, rfl, by decide +kernel⟩
theorem hdd_Words_take_ : yX12_take.cls ≠ "java/lang/invoke/MethodHandle" ∧ yX12_take.cls ≠ "java/lang/invoke/VarHandle" ∧ (parseMethodDescriptor yX12_take.desc).map (fun d => d.parameters.length) = some 1 := by decide +kernel
theorem mok_Words_take : MOK m_Words_take := ⟨by decide +kernel, by decide, cd_Words_take, pg_Words_take⟩
theorem srr_8 : ("LibraryDesk$Streame\x72", 84, "neg", 8) ∈ srT := List.mem_of_getElem? (i := 8) rfl
theorem pf_Streamer_57_21 {m : Nat} : PF m "LibraryDesk$Streame\x72" "LibraryDesk$Streame\x72" "LibraryDesk" 57 0 100 .int 21 := ⟨RX11, TX11, 28, 13, tyX11, by decide, clr_21, in_X11, tyX11_ok, nmX11, by decide, rfl, nd_21, Or.inl ⟨q917, rfl⟩, rfl, by decide +kernel⟩
theorem srr_9 : ("LibraryDesk$Streame\x72", 86, "abs", 9) ∈ srT := List.mem_of_getElem? (i := 9) rfl
theorem srr_10 : ("LibraryDesk$Streame\x72", 88, "+", 10) ∈ srT := List.mem_of_getElem? (i := 10) rfl
theorem srr_11 : ("LibraryDesk$Streame\x72", 90, "-", 11) ∈ srT := List.mem_of_getElem? (i := 11) rfl
theorem srr_12 : ("LibraryDesk$Streame\x72", 92, "*", 12) ∈ srT := List.mem_of_getElem? (i := 12) rfl
theorem srr_13 : ("LibraryDesk$Streame\x72", 94, "/", 13) ∈ srT := List.mem_of_getElem? (i := 13) rfl
theorem srr_14 : ("LibraryDesk$Streame\x72", 96, "%", 14) ∈ srT := List.mem_of_getElem? (i := 14) rfl
theorem srr_20 : ("LibraryDesk$Streame\x72", 129, "filte\x72", 20) ∈ srT := List.mem_of_getElem? (i := 20) rfl
theorem srr_21 : ("LibraryDesk$Streame\x72", 131, "map", 21) ∈ srT := List.mem_of_getElem? (i := 21) rfl
theorem srr_22 : ("LibraryDesk$Streame\x72", 133, "copies", 22) ∈ srT := List.mem_of_getElem? (i := 22) rfl
theorem srr_23 : ("LibraryDesk$Streame\x72", 135, "distinct", 23) ∈ srT := List.mem_of_getElem? (i := 23) rfl
theorem srr_24 : ("LibraryDesk$Streame\x72", 137, "sorted", 24) ∈ srT := List.mem_of_getElem? (i := 24) rfl
theorem srr_25 : ("LibraryDesk$Streame\x72", 139, "limit", 25) ∈ srT := List.mem_of_getElem? (i := 25) rfl
theorem srr_26 : ("LibraryDesk$Streame\x72", 141, "skip", 26) ∈ srT := List.mem_of_getElem? (i := 26) rfl
theorem srr_27 : ("LibraryDesk$Streame\x72", 143, "while", 27) ∈ srT := List.mem_of_getElem? (i := 27) rfl
theorem srr_28 : ("LibraryDesk$Streame\x72", 145, "until", 28) ∈ srT := List.mem_of_getElem? (i := 28) rfl
theorem gf_Streamer_147_21 : GF "LibraryDesk$Streame\x72" "LibraryDesk$Streame\x72" "LibraryDesk" 147 0 96 21 := ⟨RX11, TX11, 28, 9, by decide, clr_21, in_X11, by decide, rfl, Or.inl q911, rfl⟩
theorem hdd_Streamer_predicate_ : yX11_predicate.cls ≠ "java/lang/invoke/MethodHandle" ∧ yX11_predicate.cls ≠ "java/lang/invoke/VarHandle" ∧ (parseMethodDescriptor yX11_predicate.desc).map (fun d => d.parameters.length) = some 0 := by decide +kernel
theorem mok_Streamer_predicate : MOK m_Streamer_predicate := ⟨by decide +kernel, by decide, cd_Streamer_predicate, pg_Streamer_predicate⟩
theorem gf_Streamer_20_21 : GF "LibraryDesk$Streame\x72" "LibraryDesk$Streame\x72" "LibraryDesk" 20 2 93 21 := ⟨RX11, TX11, 28, 6, by decide, clr_21, in_X11, by decide, rfl, Or.inl q908, rfl⟩
theorem gf_Streamer_24_21 : GF "LibraryDesk$Streame\x72" "LibraryDesk$Streame\x72" "LibraryDesk" 24 2 94 21 := ⟨RX11, TX11, 28, 7, by decide, clr_21, in_X11, by decide, rfl, Or.inl q909, rfl⟩
theorem gf_Streamer_27_21 : GF "LibraryDesk$Streame\x72" "LibraryDesk$Streame\x72" "LibraryDesk" 27 2 95 21 := ⟨RX11, TX11, 28, 8, by decide, clr_21, in_X11, by decide, rfl, Or.inl q910, rfl⟩
theorem srr_2 : ("LibraryDesk$Streame\x72", 51, "even", 2) ∈ srT := List.mem_of_getElem? (i := 2) rfl
theorem srr_3 : ("LibraryDesk$Streame\x72", 60, "odd", 3) ∈ srT := List.mem_of_getElem? (i := 3) rfl
theorem srr_4 : ("LibraryDesk$Streame\x72", 62, ">", 4) ∈ srT := List.mem_of_getElem? (i := 4) rfl
theorem srr_5 : ("LibraryDesk$Streame\x72", 67, "<", 5) ∈ srT := List.mem_of_getElem? (i := 5) rfl
theorem srr_6 : ("LibraryDesk$Streame\x72", 69, "=", 6) ∈ srT := List.mem_of_getElem? (i := 6) rfl
theorem srr_7 : ("LibraryDesk$Streame\x72", 71, "div", 7) ∈ srT := List.mem_of_getElem? (i := 7) rfl
theorem hdd_Streamer_endOf_ : yX11_endOf.cls ≠ "java/lang/invoke/MethodHandle" ∧ yX11_endOf.cls ≠ "java/lang/invoke/VarHandle" ∧ (parseMethodDescriptor yX11_endOf.desc).map (fun d => d.parameters.length) = some 0 := by decide +kernel
theorem mok_Streamer_endOf : MOK m_Streamer_endOf := ⟨by decide +kernel, by decide, cd_Streamer_endOf, pg_Streamer_endOf⟩
theorem gf_Streamer_175_21 : GF "LibraryDesk$Streame\x72" "LibraryDesk$Streame\x72" "LibraryDesk" 175 0 97 21 := ⟨RX11, TX11, 28, 10, by decide, clr_21, in_X11, by decide, rfl, Or.inl q912, rfl⟩
theorem pf_Streamer_175_21 {m : Nat} : PF m "LibraryDesk$Streame\x72" "LibraryDesk$Streame\x72" "LibraryDesk" 175 0 97 .int 21 := ⟨RX11, TX11, 28, 10, tyX11, by decide, clr_21, in_X11, tyX11_ok, nmX11, by decide, rfl, nd_21, Or.inl ⟨q912, rfl⟩, rfl, by decide +kernel⟩
theorem pf_Streamer_178_21 {m : Nat} : PF m "LibraryDesk$Streame\x72" "LibraryDesk$Streame\x72" "LibraryDesk" 178 0 98 .int 21 := ⟨RX11, TX11, 28, 11, tyX11, by decide, clr_21, in_X11, tyX11_ok, nmX11, by decide, rfl, nd_21, Or.inl ⟨q914, rfl⟩, rfl, by decide +kernel⟩
theorem pf_Streamer_181_21 {m : Nat} : PF m "LibraryDesk$Streame\x72" "LibraryDesk$Streame\x72" "LibraryDesk" 181 0 99 .int 21 := ⟨RX11, TX11, 28, 12, tyX11, by decide, clr_21, in_X11, tyX11_ok, nmX11, by decide, rfl, nd_21, Or.inl ⟨q915, rfl⟩, rfl, by decide +kernel⟩
theorem srr_39 : ("LibraryDesk$Streame\x72", 184, "^", 39) ∈ srT := List.mem_of_getElem? (i := 39) rfl
theorem gf_Streamer_178_21 : GF "LibraryDesk$Streame\x72" "LibraryDesk$Streame\x72" "LibraryDesk" 178 0 98 21 := ⟨RX11, TX11, 28, 11, by decide, clr_21, in_X11, by decide, rfl, Or.inl q914, rfl⟩
theorem srr_29 : ("LibraryDesk$Streame\x72", 154, "count", 29) ∈ srT := List.mem_of_getElem? (i := 29) rfl
theorem srr_30 : ("LibraryDesk$Streame\x72", 155, "sum", 30) ∈ srT := List.mem_of_getElem? (i := 30) rfl
theorem srr_31 : ("LibraryDesk$Streame\x72", 157, "least", 31) ∈ srT := List.mem_of_getElem? (i := 31) rfl
theorem srr_32 : ("LibraryDesk$Streame\x72", 159, "greatest", 32) ∈ srT := List.mem_of_getElem? (i := 32) rfl
theorem srr_33 : ("LibraryDesk$Streame\x72", 161, "first", 33) ∈ srT := List.mem_of_getElem? (i := 33) rfl
theorem srr_34 : ("LibraryDesk$Streame\x72", 163, "any", 34) ∈ srT := List.mem_of_getElem? (i := 34) rfl
theorem srr_35 : ("LibraryDesk$Streame\x72", 164, "all", 35) ∈ srT := List.mem_of_getElem? (i := 35) rfl
theorem srr_36 : ("LibraryDesk$Streame\x72", 166, "none", 36) ∈ srT := List.mem_of_getElem? (i := 36) rfl
theorem srr_37 : ("LibraryDesk$Streame\x72", 168, "fold", 37) ∈ srT := List.mem_of_getElem? (i := 37) rfl
theorem srr_38 : ("LibraryDesk$Streame\x72", 170, "group", 38) ∈ srT := List.mem_of_getElem? (i := 38) rfl
theorem pf_Streamer_213_21 {m : Nat} : PF m "LibraryDesk$Streame\x72" "LibraryDesk$Streame\x72" "LibraryDesk" 213 0 102 .int 21 := ⟨RX11, TX11, 28, 15, tyX11, by decide, clr_21, in_X11, tyX11_ok, nmX11, by decide, rfl, nd_21, Or.inl ⟨q919, rfl⟩, rfl, by decide +kernel⟩
theorem pf_Streamer_219_21 {m : Nat} : PF m "LibraryDesk$Streame\x72" "LibraryDesk$Streame\x72" "LibraryDesk" 219 0 107 .int 21 := ⟨RX11, TX11, 28, 20, tyX11, by decide, clr_21, in_X11, tyX11_ok, nmX11, by decide, rfl, nd_21, Or.inl ⟨q927, rfl⟩, rfl, by decide +kernel⟩
theorem pf_Streamer_216_21 {m : Nat} : PF m "LibraryDesk$Streame\x72" "LibraryDesk$Streame\x72" "LibraryDesk" 216 0 106 .int 21 := ⟨RX11, TX11, 28, 19, tyX11, by decide, clr_21, in_X11, tyX11_ok, nmX11, by decide, rfl, nd_21, Or.inl ⟨q926, rfl⟩, rfl, by decide +kernel⟩
theorem gf_Streamer_222_21 : GF "LibraryDesk$Streame\x72" "LibraryDesk$Streame\x72" "LibraryDesk" 222 2 104 21 := ⟨RX11, TX11, 28, 17, by decide, clr_21, in_X11, by decide, rfl, Or.inl q923, rfl⟩
theorem pf_Streamer_229_21 {m : Nat} : PF m "LibraryDesk$Streame\x72" "LibraryDesk$Streame\x72" "LibraryDesk" 229 0 105 .int 21 := ⟨RX11, TX11, 28, 18, tyX11, by decide, clr_21, in_X11, tyX11_ok, nmX11, by decide, rfl, nd_21, Or.inl ⟨q925, rfl⟩, rfl, by decide +kernel⟩
theorem gf_Streamer_30_21 : GF "LibraryDesk$Streame\x72" "LibraryDesk$Streame\x72" "LibraryDesk" 30 2 109 21 := ⟨RX11, TX11, 28, 22, by decide, clr_21, in_X11, by decide, rfl, Or.inl q930, rfl⟩
theorem gf_Streamer_33_21 : GF "LibraryDesk$Streame\x72" "LibraryDesk$Streame\x72" "LibraryDesk" 33 2 110 21 := ⟨RX11, TX11, 28, 23, by decide, clr_21, in_X11, by decide, rfl, Or.inl q931, rfl⟩
theorem gf_Streamer_246_21 : GF "LibraryDesk$Streame\x72" "LibraryDesk$Streame\x72" "LibraryDesk" 246 0 108 21 := ⟨RX11, TX11, 28, 21, by decide, clr_21, in_X11, by decide, rfl, Or.inl q928, rfl⟩
theorem hdd_Streamer_pull_ : yX11_pull.cls ≠ "java/lang/invoke/MethodHandle" ∧ yX11_pull.cls ≠ "java/lang/invoke/VarHandle" ∧ (parseMethodDescriptor yX11_pull.desc).map (fun d => d.parameters.length) = some 1 := by decide +kernel
theorem mok_Streamer_pull : MOK m_Streamer_pull := ⟨by decide +kernel, by decide, cd_Streamer_pull, pg_Streamer_pull⟩
theorem hdd_Streamer_pullSource_ : yX11_pullSource.cls ≠ "java/lang/invoke/MethodHandle" ∧ yX11_pullSource.cls ≠ "java/lang/invoke/VarHandle" ∧ (parseMethodDescriptor yX11_pullSource.desc).map (fun d => d.parameters.length) = some 0 := by decide +kernel
theorem mok_Streamer_pullSource : MOK m_Streamer_pullSource := ⟨by decide +kernel, by decide, cd_Streamer_pullSource, pg_Streamer_pullSource⟩
theorem hdd_Streamer_comes_ : yX11_comes.cls ≠ "java/lang/invoke/MethodHandle" ∧ yX11_comes.cls ≠ "java/lang/invoke/VarHandle" ∧ (parseMethodDescriptor yX11_comes.desc).map (fun d => d.parameters.length) = some 1 := by decide +kernel
theorem mok_Streamer_comes : MOK m_Streamer_comes := ⟨by decide +kernel, by decide, cd_Streamer_comes, pg_Streamer_comes⟩
theorem gf_Streamer_219_21 : GF "LibraryDesk$Streame\x72" "LibraryDesk$Streame\x72" "LibraryDesk" 219 0 107 21 := ⟨RX11, TX11, 28, 20, by decide, clr_21, in_X11, by decide, rfl, Or.inl q927, rfl⟩
theorem hdd_Streamer_hasMore_ : yX11_hasMore.cls ≠ "java/lang/invoke/MethodHandle" ∧ yX11_hasMore.cls ≠ "java/lang/invoke/VarHandle" ∧ (parseMethodDescriptor yX11_hasMore.desc).map (fun d => d.parameters.length) = some 0 := by decide +kernel
theorem mok_Streamer_hasMore : MOK m_Streamer_hasMore := ⟨by decide +kernel, by decide, cd_Streamer_hasMore, pg_Streamer_hasMore⟩
theorem gf_Streamer_216_21 : GF "LibraryDesk$Streame\x72" "LibraryDesk$Streame\x72" "LibraryDesk" 216 0 106 21 := ⟨RX11, TX11, 28, 19, by decide, clr_21, in_X11, by decide, rfl, Or.inl q926, rfl⟩
theorem gf_Streamer_114_21 : GF "LibraryDesk$Streame\x72" "LibraryDesk$Streame\x72" "LibraryDesk" 114 0 89 21 := ⟨RX11, TX11, 28, 2, by decide, clr_21, in_X11, by decide, rfl, Or.inl q903, rfl⟩
theorem pf_Streamer_246_21 {m : Nat} : PF m "LibraryDesk$Streame\x72" "LibraryDesk$Streame\x72" "LibraryDesk" 246 0 108 .int 21 := ⟨RX11, TX11, 28, 21, tyX11, by decide, clr_21, in_X11, tyX11_ok, nmX11, by decide, rfl, nd_21, Or.inl ⟨q928, rfl⟩, rfl, by decide +kernel⟩
theorem gf_Streamer_235_21 : GF "LibraryDesk$Streame\x72" "LibraryDesk$Streame\x72" "LibraryDesk" 235 2 103 21 := ⟨RX11, TX11, 28, 16, by decide, clr_21, in_X11, by decide, rfl, Or.inl q921, rfl⟩
theorem gf_Streamer_123_21 : GF "LibraryDesk$Streame\x72" "LibraryDesk$Streame\x72" "LibraryDesk" 123 0 91 21 := ⟨RX11, TX11, 28, 4, by decide, clr_21, in_X11, by decide, rfl, Or.inl q906, rfl⟩
theorem gf_Streamer_126_21 : GF "LibraryDesk$Streame\x72" "LibraryDesk$Streame\x72" "LibraryDesk" 126 0 92 21 := ⟨RX11, TX11, 28, 5, by decide, clr_21, in_X11, by decide, rfl, Or.inl q907, rfl⟩
theorem hdd_Streamer_apply_ : yX11_apply.cls ≠ "java/lang/invoke/MethodHandle" ∧ yX11_apply.cls ≠ "java/lang/invoke/VarHandle" ∧ (parseMethodDescriptor yX11_apply.desc).map (fun d => d.parameters.length) = some 3 := by decide +kernel
theorem mok_Streamer_apply : MOK m_Streamer_apply := ⟨by decide +kernel, by decide, cd_Streamer_apply, pg_Streamer_apply⟩
theorem gf_Streamer_253_21 : GF "LibraryDesk$Streame\x72" "LibraryDesk$Streame\x72" "LibraryDesk" 253 0 114 21 := ⟨RX11, TX11, 28, 27, by decide, clr_21, in_X11, by decide, rfl, Or.inl q935, rfl⟩
theorem pf_Streamer_253_21 {m : Nat} : PF m "LibraryDesk$Streame\x72" "LibraryDesk$Streame\x72" "LibraryDesk" 253 0 114 .int 21 := ⟨RX11, TX11, 28, 27, tyX11, by decide, clr_21, in_X11, tyX11_ok, nmX11, by decide, rfl, nd_21, Or.inl ⟨q935, rfl⟩, rfl, by decide +kernel⟩
theorem gf_Streamer_229_21 : GF "LibraryDesk$Streame\x72" "LibraryDesk$Streame\x72" "LibraryDesk" 229 0 105 21 := ⟨RX11, TX11, 28, 18, by decide, clr_21, in_X11, by decide, rfl, Or.inl q925, rfl⟩
theorem gf_Streamer_117_21 : GF "LibraryDesk$Streame\x72" "LibraryDesk$Streame\x72" "LibraryDesk" 117 0 90 21 := ⟨RX11, TX11, 28, 3, by decide, clr_21, in_X11, by decide, rfl, Or.inl q905, rfl⟩
theorem gf_Streamer_213_21 : GF "LibraryDesk$Streame\x72" "LibraryDesk$Streame\x72" "LibraryDesk" 213 0 102 21 := ⟨RX11, TX11, 28, 15, by decide, clr_21, in_X11, by decide, rfl, Or.inl q919, rfl⟩
theorem hdd_Streamer_test_ : yX11_test.cls ≠ "java/lang/invoke/MethodHandle" ∧ yX11_test.cls ≠ "java/lang/invoke/VarHandle" ∧ (parseMethodDescriptor yX11_test.desc).map (fun d => d.parameters.length) = some 3 := by decide +kernel
theorem mok_Streamer_test : MOK m_Streamer_test := ⟨by decide +kernel, by decide, cd_Streamer_test, pg_Streamer_test⟩
theorem hdd_Streamer_copies_ : yX11_copies.cls ≠ "java/lang/invoke/MethodHandle" ∧ yX11_copies.cls ≠ "java/lang/invoke/VarHandle" ∧ (parseMethodDescriptor yX11_copies.desc).map (fun d => d.parameters.length) = some 2 := by decide +kernel
theorem mok_Streamer_copies : MOK m_Streamer_copies := ⟨by decide +kernel, by decide, cd_Streamer_copies, pg_Streamer_copies⟩
theorem hdd_Streamer_distinct_ : yX11_distinct.cls ≠ "java/lang/invoke/MethodHandle" ∧ yX11_distinct.cls ≠ "java/lang/invoke/VarHandle" ∧ (parseMethodDescriptor yX11_distinct.desc).map (fun d => d.parameters.length) = some 1 := by decide +kernel
theorem mok_Streamer_distinct : MOK m_Streamer_distinct := ⟨by decide +kernel, by decide, cd_Streamer_distinct, pg_Streamer_distinct⟩
theorem hdd_Streamer_sorted_ : yX11_sorted.cls ≠ "java/lang/invoke/MethodHandle" ∧ yX11_sorted.cls ≠ "java/lang/invoke/VarHandle" ∧ (parseMethodDescriptor yX11_sorted.desc).map (fun d => d.parameters.length) = some 2 := by decide +kernel
theorem mok_Streamer_sorted : MOK m_Streamer_sorted := ⟨by decide +kernel, by decide, cd_Streamer_sorted, pg_Streamer_sorted⟩
theorem gf_Streamer_37_21 : GF "LibraryDesk$Streame\x72" "LibraryDesk$Streame\x72" "LibraryDesk" 37 2 111 21 := ⟨RX11, TX11, 28, 24, by decide, clr_21, in_X11, by decide, rfl, Or.inl q932, rfl⟩
theorem gf_Streamer_41_21 : GF "LibraryDesk$Streame\x72" "LibraryDesk$Streame\x72" "LibraryDesk" 41 2 112 21 := ⟨RX11, TX11, 28, 25, by decide, clr_21, in_X11, by decide, rfl, Or.inl q933, rfl⟩
theorem hdd_Streamer_keep_ : yX11_keep.cls ≠ "java/lang/invoke/MethodHandle" ∧ yX11_keep.cls ≠ "java/lang/invoke/VarHandle" ∧ (parseMethodDescriptor yX11_keep.desc).map (fun d => d.parameters.length) = some 1 := by decide +kernel
theorem mok_Streamer_keep : MOK m_Streamer_keep := ⟨by decide +kernel, by decide, cd_Streamer_keep, pg_Streamer_keep⟩
theorem hdd_Streamer_sort_ : yX11_sort.cls ≠ "java/lang/invoke/MethodHandle" ∧ yX11_sort.cls ≠ "java/lang/invoke/VarHandle" ∧ (parseMethodDescriptor yX11_sort.desc).map (fun d => d.parameters.length) = some 3 := by decide +kernel
theorem mok_Streamer_sort : MOK m_Streamer_sort := ⟨by decide +kernel, by decide, cd_Streamer_sort, pg_Streamer_sort⟩
theorem hdd_Streamer_merge_ : yX11_merge.cls ≠ "java/lang/invoke/MethodHandle" ∧ yX11_merge.cls ≠ "java/lang/invoke/VarHandle" ∧ (parseMethodDescriptor yX11_merge.desc).map (fun d => d.parameters.length) = some 5 := by decide +kernel
theorem mok_Streamer_merge : MOK m_Streamer_merge := ⟨by decide +kernel, by decide, cd_Streamer_merge, pg_Streamer_merge⟩
theorem gf_Streamer_44_21 : GF "LibraryDesk$Streame\x72" "LibraryDesk$Streame\x72" "LibraryDesk" 44 2 113 21 := ⟨RX11, TX11, 28, 26, by decide, clr_21, in_X11, by decide, rfl, Or.inl q934, rfl⟩
theorem gf_Streamer_181_21 : GF "LibraryDesk$Streame\x72" "LibraryDesk$Streame\x72" "LibraryDesk" 181 0 99 21 := ⟨RX11, TX11, 28, 12, by decide, clr_21, in_X11, by decide, rfl, Or.inl q915, rfl⟩
theorem hdd_Streamer_fold_ : yX11_fold.cls ≠ "java/lang/invoke/MethodHandle" ∧ yX11_fold.cls ≠ "java/lang/invoke/VarHandle" ∧ (parseMethodDescriptor yX11_fold.desc).map (fun d => d.parameters.length) = some 3 := by decide +kernel
theorem mok_Streamer_fold : MOK m_Streamer_fold := ⟨by decide +kernel, by decide, cd_Streamer_fold, pg_Streamer_fold⟩
theorem nd_22 : va_nd ((flT 22).map (·.2)) = true := by decide +kernel
theorem pf_Words_init_7_22 : PF m_Words_init "LibraryDesk$Words" "LibraryDesk$Words" "LibraryDesk" 7 0 119 .boolean 22 := ⟨RX12, TX12, 5, 4, tyX12, by decide, clr_22, in_X12, tyX12_ok, nmX12, by decide, rfl, nd_22, Or.inr (Or.inr ⟨q887, rfl, rfl, rfl⟩), rfl, by decide +kernel⟩
theorem pf_Words_13_22 {m : Nat} : PF m "LibraryDesk$Words" "LibraryDesk$Words" "LibraryDesk" 13 2 115 (.array .byte) 22 := ⟨RX12, TX12, 5, 0, tyX12, by decide, clr_22, in_X12, tyX12_ok, nmX12, by decide, rfl, nd_22, Or.inl ⟨q883, rfl⟩, rfl, by decide +kernel⟩
theorem pf_Words_17_22 {m : Nat} : PF m "LibraryDesk$Words" "LibraryDesk$Words" "LibraryDesk" 17 0 116 .int 22 := ⟨RX12, TX12, 5, 1, tyX12, by decide, clr_22, in_X12, tyX12_ok, nmX12, by decide, rfl, nd_22, Or.inl ⟨q884, rfl⟩, rfl, by decide +kernel⟩
theorem pf_Words_21_22 {m : Nat} : PF m "LibraryDesk$Words" "LibraryDesk$Words" "LibraryDesk" 21 0 117 .int 22 := ⟨RX12, TX12, 5, 2, tyX12, by decide, clr_22, in_X12, tyX12_ok, nmX12, by decide, rfl, nd_22, Or.inl ⟨q885, rfl⟩, rfl, by decide +kernel⟩
theorem gf_Words_17_22 : GF "LibraryDesk$Words" "LibraryDesk$Words" "LibraryDesk" 17 0 116 22 := ⟨RX12, TX12, 5, 1, by decide, clr_22, in_X12, by decide, rfl, Or.inl q884, rfl⟩
theorem gf_Words_21_22 : GF "LibraryDesk$Words" "LibraryDesk$Words" "LibraryDesk" 21 0 117 22 := ⟨RX12, TX12, 5, 2, by decide, clr_22, in_X12, by decide, rfl, Or.inl q885, rfl⟩
theorem gf_Words_13_22 : GF "LibraryDesk$Words" "LibraryDesk$Words" "LibraryDesk" 13 2 115 22 := ⟨RX12, TX12, 5, 0, by decide, clr_22, in_X12, by decide, rfl, Or.inl q883, rfl⟩
theorem pf_Words_27_22 {m : Nat} : PF m "LibraryDesk$Words" "LibraryDesk$Words" "LibraryDesk" 27 0 118 .int 22 := ⟨RX12, TX12, 5, 3, tyX12, by decide, clr_22, in_X12, tyX12_ok, nmX12, by decide, rfl, nd_22, Or.inl ⟨q886, rfl⟩, rfl, by decide +kernel⟩
theorem gf_Words_7_22 : GF "LibraryDesk$Words" "LibraryDesk$Words" "LibraryDesk" 7 0 119 22 := ⟨RX12, TX12, 5, 4, by decide, clr_22, in_X12, by decide, rfl, Or.inl q887, rfl⟩
theorem gf_Words_27_22 : GF "LibraryDesk$Words" "LibraryDesk$Words" "LibraryDesk" 27 0 118 22 := ⟨RX12, TX12, 5, 3, by decide, clr_22, in_X12, by decide, rfl, Or.inl q886, rfl⟩
theorem bkf_Words_30_32 : BKF "LibraryDesk$Words" RX38 "LibraryDesk" TB48 cX38_init 48 365 30 32 := ⟨by decide, rfl, rfl, q3937, q3100, q561, q3109, q3110, Or.inr nw3938, by decide, by decide⟩
theorem nf_Threads_9 : NF "LibraryDesk$Threads" 9 22 5 := ⟨RX12, TX12, tyX12, by decide, clr_22, in_X12, tyX12_ok, q999, q878, q519, by decide +kernel⟩
theorem nd_23 : va_nd ((flT 23).map (·.2)) = true := by decide +kernel
theorem pf_Threads_init_14_23 : PF m_Threads_init "LibraryDesk$Threads" "LibraryDesk$Threads" "LibraryDesk" 14 2 120 (.object "LibraryDesk$Words") 23 := ⟨RX13, TX13, 21, 0, tyX13, by decide, clr_23, in_X13, tyX13_ok, nmX13, by decide, rfl, nd_23, Or.inr (Or.inr ⟨q1001, rfl, rfl, rfl⟩), rfl, by decide +kernel⟩
theorem pf_Threads_init_20_23 : PF m_Threads_init "LibraryDesk$Threads" "LibraryDesk$Threads" "LibraryDesk" 20 2 122 (.array .int) 23 := ⟨RX13, TX13, 21, 2, tyX13, by decide, clr_23, in_X13, tyX13_ok, nmX13, by decide, rfl, nd_23, Or.inr (Or.inr ⟨q1003, rfl, rfl, rfl⟩), rfl, by decide +kernel⟩
theorem pf_Threads_init_24_23 : PF m_Threads_init "LibraryDesk$Threads" "LibraryDesk$Threads" "LibraryDesk" 24 2 123 (.array .int) 23 := ⟨RX13, TX13, 21, 3, tyX13, by decide, clr_23, in_X13, tyX13_ok, nmX13, by decide, rfl, nd_23, Or.inr (Or.inr ⟨q1004, rfl, rfl, rfl⟩), rfl, by decide +kernel⟩
theorem pf_Threads_init_27_23 : PF m_Threads_init "LibraryDesk$Threads" "LibraryDesk$Threads" "LibraryDesk" 27 2 124 (.array .int) 23 := ⟨RX13, TX13, 21, 4, tyX13, by decide, clr_23, in_X13, tyX13_ok, nmX13, by decide, rfl, nd_23, Or.inr (Or.inr ⟨q1005, rfl, rfl, rfl⟩), rfl, by decide +kernel⟩
theorem pf_Threads_init_30_23 : PF m_Threads_init "LibraryDesk$Threads" "LibraryDesk$Threads" "LibraryDesk" 30 2 125 (.array .int) 23 := ⟨RX13, TX13, 21, 5, tyX13, by decide, clr_23, in_X13, tyX13_ok, nmX13, by decide, rfl, nd_23, Or.inr (Or.inr ⟨q1006, rfl, rfl, rfl⟩), rfl, by decide +kernel⟩
theorem pf_Threads_init_33_23 : PF m_Threads_init "LibraryDesk$Threads" "LibraryDesk$Threads" "LibraryDesk" 33 2 126 (.array .int) 23 := ⟨RX13, TX13, 21, 6, tyX13, by decide, clr_23, in_X13, tyX13_ok, nmX13, by decide, rfl, nd_23, Or.inr (Or.inr ⟨q1007, rfl, rfl, rfl⟩), rfl, by decide +kernel⟩
theorem pf_Threads_init_36_23 : PF m_Threads_init "LibraryDesk$Threads" "LibraryDesk$Threads" "LibraryDesk" 36 2 127 (.array .int) 23 := ⟨RX13, TX13, 21, 7, tyX13, by decide, clr_23, in_X13, tyX13_ok, nmX13, by decide, rfl, nd_23, Or.inr (Or.inr ⟨q1008, rfl, rfl, rfl⟩), rfl, by decide +kernel⟩
theorem pf_Threads_init_39_23 : PF m_Threads_init "LibraryDesk$Threads" "LibraryDesk$Threads" "LibraryDesk" 39 2 128 (.array .int) 23 := ⟨RX13, TX13, 21, 8, tyX13, by decide, clr_23, in_X13, tyX13_ok, nmX13, by decide, rfl, nd_23, Or.inr (Or.inr ⟨q1009, rfl, rfl, rfl⟩), rfl, by decide +kernel⟩
theorem pf_Threads_init_42_23 : PF m_Threads_init "LibraryDesk$Threads" "LibraryDesk$Threads" "LibraryDesk" 42 2 129 (.array .int) 23 := ⟨RX13, TX13, 21, 9, tyX13, by decide, clr_23, in_X13, tyX13_ok, nmX13, by decide, rfl, nd_23, Or.inr (Or.inr ⟨q1010, rfl, rfl, rfl⟩), rfl, by decide +kernel⟩
theorem pf_Threads_init_45_23 : PF m_Threads_init "LibraryDesk$Threads" "LibraryDesk$Threads" "LibraryDesk" 45 2 130 (.array .int) 23 := ⟨RX13, TX13, 21, 10, tyX13, by decide, clr_23, in_X13, tyX13_ok, nmX13, by decide, rfl, nd_23, Or.inr (Or.inr ⟨q1011, rfl, rfl, rfl⟩), rfl, by decide +kernel⟩
theorem pf_Threads_init_48_23 : PF m_Threads_init "LibraryDesk$Threads" "LibraryDesk$Threads" "LibraryDesk" 48 2 131 (.array .boolean) 23 := ⟨RX13, TX13, 21, 11, tyX13, by decide, clr_23, in_X13, tyX13_ok, nmX13, by decide, rfl, nd_23, Or.inr (Or.inr ⟨q1012, rfl, rfl, rfl⟩), rfl, by decide +kernel⟩
theorem pf_Threads_init_52_23 : PF m_Threads_init "LibraryDesk$Threads" "LibraryDesk$Threads" "LibraryDesk" 52 2 132 (.array .int) 23 := ⟨RX13, TX13, 21, 12, tyX13, by decide, clr_23, in_X13, tyX13_ok, nmX13, by decide, rfl, nd_23, Or.inr (Or.inr ⟨q1013, rfl, rfl, rfl⟩), rfl, by decide +kernel⟩
theorem pf_Threads_init_55_23 : PF m_Threads_init "LibraryDesk$Threads" "LibraryDesk$Threads" "LibraryDesk" 55 2 133 (.array .long) 23 := ⟨RX13, TX13, 21, 13, tyX13, by decide, clr_23, in_X13, tyX13_ok, nmX13, by decide, rfl, nd_23, Or.inr (Or.inr ⟨q1014, rfl, rfl, rfl⟩), rfl, by decide +kernel⟩
theorem pf_Threads_init_59_23 : PF m_Threads_init "LibraryDesk$Threads" "LibraryDesk$Threads" "LibraryDesk" 59 2 134 (.array .int) 23 := ⟨RX13, TX13, 21, 14, tyX13, by decide, clr_23, in_X13, tyX13_ok, nmX13, by decide, rfl, nd_23, Or.inr (Or.inr ⟨q1015, rfl, rfl, rfl⟩), rfl, by decide +kernel⟩
theorem pf_Threads_init_62_23 : PF m_Threads_init "LibraryDesk$Threads" "LibraryDesk$Threads" "LibraryDesk" 62 2 135 (.array .int) 23 := ⟨RX13, TX13, 21, 15, tyX13, by decide, clr_23, in_X13, tyX13_ok, nmX13, by decide, rfl, nd_23, Or.inr (Or.inr ⟨q1016, rfl, rfl, rfl⟩), rfl, by decide +kernel⟩
theorem pf_Threads_init_65_23 : PF m_Threads_init "LibraryDesk$Threads" "LibraryDesk$Threads" "LibraryDesk" 65 2 136 (.array .int) 23 := ⟨RX13, TX13, 21, 16, tyX13, by decide, clr_23, in_X13, tyX13_ok, nmX13, by decide, rfl, nd_23, Or.inr (Or.inr ⟨q1017, rfl, rfl, rfl⟩), rfl, by decide +kernel⟩
theorem pf_Threads_init_68_23 : PF m_Threads_init "LibraryDesk$Threads" "LibraryDesk$Threads" "LibraryDesk" 68 2 137 (.array .int) 23 := ⟨RX13, TX13, 21, 17, tyX13, by decide, clr_23, in_X13, tyX13_ok, nmX13, by decide, rfl, nd_23, Or.inr (Or.inr ⟨q1018, rfl, rfl, rfl⟩), rfl, by decide +kernel⟩
theorem pf_Threads_init_71_23 : PF m_Threads_init "LibraryDesk$Threads" "LibraryDesk$Threads" "LibraryDesk" 71 2 138 (.array .int) 23 := ⟨RX13, TX13, 21, 18, tyX13, by decide, clr_23, in_X13, tyX13_ok, nmX13, by decide, rfl, nd_23, Or.inr (Or.inr ⟨q1019, rfl, rfl, rfl⟩), rfl, by decide +kernel⟩
theorem pf_Threads_init_74_23 : PF m_Threads_init "LibraryDesk$Threads" "LibraryDesk$Threads" "LibraryDesk" 74 2 139 (.array .int) 23 := ⟨RX13, TX13, 21, 19, tyX13, by decide, clr_23, in_X13, tyX13_ok, nmX13, by decide, rfl, nd_23, Or.inr (Or.inr ⟨q1020, rfl, rfl, rfl⟩), rfl, by decide +kernel⟩
theorem pf_Threads_init_77_23 : PF m_Threads_init "LibraryDesk$Threads" "LibraryDesk$Threads" "LibraryDesk" 77 2 121 (.array (.object "LibraryDesk$Thing")) 23 := ⟨RX13, TX13, 21, 1, tyX13, by decide, clr_23, in_X13, tyX13_ok, nmX13, by decide, rfl, nd_23, Or.inr (Or.inr ⟨q1002, rfl, rfl, rfl⟩), rfl, by decide +kernel⟩
theorem gf_Threads_45_23 : GF "LibraryDesk$Threads" "LibraryDesk$Threads" "LibraryDesk" 45 2 130 23 := ⟨RX13, TX13, 21, 10, by decide, clr_23, in_X13, by decide, rfl, Or.inl q1011, rfl⟩
theorem hdd_Threads_lockOf_ : yX13_lockOf.cls ≠ "java/lang/invoke/MethodHandle" ∧ yX13_lockOf.cls ≠ "java/lang/invoke/VarHandle" ∧ (parseMethodDescriptor yX13_lockOf.desc).map (fun d => d.parameters.length) = some 1 := by decide +kernel
theorem mok_Threads_lockOf : MOK m_Threads_lockOf := ⟨by decide +kernel, by decide, cd_Threads_lockOf, pg_Threads_lockOf⟩
theorem gf_Threads_36_23 : GF "LibraryDesk$Threads" "LibraryDesk$Threads" "LibraryDesk" 36 2 127 23 := ⟨RX13, TX13, 21, 7, by decide, clr_23, in_X13, by decide, rfl, Or.inl q1008, rfl⟩
theorem gf_Threads_77_23 : GF "LibraryDesk$Threads" "LibraryDesk$Threads" "LibraryDesk" 77 2 121 23 := ⟨RX13, TX13, 21, 1, by decide, clr_23, in_X13, by decide, rfl, Or.inl q1002, rfl⟩
theorem gf_Threads_244_44 : GF "LibraryDesk$Threads" "LibraryDesk$SyncThing" "LibraryDesk" 244 2 359 44 := ⟨RX34, TX34, 10, 6, by decide, clr_44, in_X34, by decide, rfl, Or.inr nw1848, rfl⟩
theorem hdd_Row_has_ : yX35_has.cls ≠ "java/lang/invoke/MethodHandle" ∧ yX35_has.cls ≠ "java/lang/invoke/VarHandle" ∧ (parseMethodDescriptor yX35_has.desc).map (fun d => d.parameters.length) = some 1 := by decide +kernel
theorem mok_Row_has : MOK m_Row_has := ⟨by decide +kernel, by decide, cd_Row_has, pg_Row_has⟩
theorem gf_Threads_255_44 : GF "LibraryDesk$Threads" "LibraryDesk$SyncThing" "LibraryDesk" 255 0 358 44 := ⟨RX34, TX34, 10, 5, by decide, clr_44, in_X34, by decide, rfl, Or.inr nw1846, rfl⟩
theorem hdd_Threads_read_ : yX13_read.cls ≠ "java/lang/invoke/MethodHandle" ∧ yX13_read.cls ≠ "java/lang/invoke/VarHandle" ∧ (parseMethodDescriptor yX13_read.desc).map (fun d => d.parameters.length) = some 2 := by decide +kernel
theorem mok_Threads_read : MOK m_Threads_read := ⟨by decide +kernel, by decide, cd_Threads_read, pg_Threads_read⟩
theorem gf_Threads_20_23 : GF "LibraryDesk$Threads" "LibraryDesk$Threads" "LibraryDesk" 20 2 122 23 := ⟨RX13, TX13, 21, 2, by decide, clr_23, in_X13, by decide, rfl, Or.inl q1003, rfl⟩
theorem gf_Threads_65_23 : GF "LibraryDesk$Threads" "LibraryDesk$Threads" "LibraryDesk" 65 2 136 23 := ⟨RX13, TX13, 21, 16, by decide, clr_23, in_X13, by decide, rfl, Or.inl q1017, rfl⟩
theorem gf_Threads_24_23 : GF "LibraryDesk$Threads" "LibraryDesk$Threads" "LibraryDesk" 24 2 123 23 := ⟨RX13, TX13, 21, 3, by decide, clr_23, in_X13, by decide, rfl, Or.inl q1004, rfl⟩
theorem gf_Threads_68_23 : GF "LibraryDesk$Threads" "LibraryDesk$Threads" "LibraryDesk" 68 2 137 23 := ⟨RX13, TX13, 21, 17, by decide, clr_23, in_X13, by decide, rfl, Or.inl q1018, rfl⟩
theorem gf_Threads_27_23 : GF "LibraryDesk$Threads" "LibraryDesk$Threads" "LibraryDesk" 27 2 124 23 := ⟨RX13, TX13, 21, 4, by decide, clr_23, in_X13, by decide, rfl, Or.inl q1005, rfl⟩
theorem gf_Threads_71_23 : GF "LibraryDesk$Threads" "LibraryDesk$Threads" "LibraryDesk" 71 2 138 23 := ⟨RX13, TX13, 21, 18, by decide, clr_23, in_X13, by decide, rfl, Or.inl q1019, rfl⟩
theorem gf_Threads_74_23 : GF "LibraryDesk$Threads" "LibraryDesk$Threads" "LibraryDesk" 74 2 139 23 := ⟨RX13, TX13, 21, 19, by decide, clr_23, in_X13, by decide, rfl, Or.inl q1020, rfl⟩
theorem gf_Threads_30_23 : GF "LibraryDesk$Threads" "LibraryDesk$Threads" "LibraryDesk" 30 2 125 23 := ⟨RX13, TX13, 21, 5, by decide, clr_23, in_X13, by decide, rfl, Or.inl q1006, rfl⟩
theorem gf_Threads_33_23 : GF "LibraryDesk$Threads" "LibraryDesk$Threads" "LibraryDesk" 33 2 126 23 := ⟨RX13, TX13, 21, 6, by decide, clr_23, in_X13, by decide, rfl, Or.inl q1007, rfl⟩
theorem gf_Threads_39_23 : GF "LibraryDesk$Threads" "LibraryDesk$Threads" "LibraryDesk" 39 2 128 23 := ⟨RX13, TX13, 21, 8, by decide, clr_23, in_X13, by decide, rfl, Or.inl q1009, rfl⟩
theorem gf_Threads_42_23 : GF "LibraryDesk$Threads" "LibraryDesk$Threads" "LibraryDesk" 42 2 129 23 := ⟨RX13, TX13, 21, 9, by decide, clr_23, in_X13, by decide, rfl, Or.inl q1010, rfl⟩
theorem gf_Threads_48_23 : GF "LibraryDesk$Threads" "LibraryDesk$Threads" "LibraryDesk" 48 2 131 23 := ⟨RX13, TX13, 21, 11, by decide, clr_23, in_X13, by decide, rfl, Or.inl q1012, rfl⟩
theorem gf_Threads_52_23 : GF "LibraryDesk$Threads" "LibraryDesk$Threads" "LibraryDesk" 52 2 132 23 := ⟨RX13, TX13, 21, 12, by decide, clr_23, in_X13, by decide, rfl, Or.inl q1013, rfl⟩
theorem gf_Threads_14_23 : GF "LibraryDesk$Threads" "LibraryDesk$Threads" "LibraryDesk" 14 2 120 23 := ⟨RX13, TX13, 21, 0, by decide, clr_23, in_X13, by decide, rfl, Or.inl q1001, rfl⟩
theorem hdd_Threads_readStep_ : yX13_readStep.cls ≠ "java/lang/invoke/MethodHandle" ∧ yX13_readStep.cls ≠ "java/lang/invoke/VarHandle" ∧ (parseMethodDescriptor yX13_readStep.desc).map (fun d => d.parameters.length) = some 1 := by decide +kernel
theorem mok_Threads_readStep : MOK m_Threads_readStep := ⟨by decide +kernel, by decide, cd_Threads_readStep, pg_Threads_readStep⟩
theorem srr_70 : ("LibraryDesk$Threads", 170, ";", 70) ∈ srT := List.mem_of_getElem? (i := 70) rfl
theorem hdd_Threads_opOf_ : yX13_opOf.cls ≠ "java/lang/invoke/MethodHandle" ∧ yX13_opOf.cls ≠ "java/lang/invoke/VarHandle" ∧ (parseMethodDescriptor yX13_opOf.desc).map (fun d => d.parameters.length) = some 0 := by decide +kernel
theorem mok_Threads_opOf : MOK m_Threads_opOf := ⟨by decide +kernel, by decide, cd_Threads_opOf, pg_Threads_opOf⟩
theorem srr_41 : ("LibraryDesk$Threads", 81, "load", 41) ∈ srT := List.mem_of_getElem? (i := 41) rfl
theorem srr_42 : ("LibraryDesk$Threads", 87, "add", 42) ∈ srT := List.mem_of_getElem? (i := 42) rfl
theorem srr_43 : ("LibraryDesk$Threads", 89, "jump", 43) ∈ srT := List.mem_of_getElem? (i := 43) rfl
theorem srr_44 : ("LibraryDesk$Threads", 91, "zero", 44) ∈ srT := List.mem_of_getElem? (i := 44) rfl
theorem srr_45 : ("LibraryDesk$Threads", 93, "less", 45) ∈ srT := List.mem_of_getElem? (i := 45) rfl
theorem srr_46 : ("LibraryDesk$Threads", 95, "sleep", 46) ∈ srT := List.mem_of_getElem? (i := 46) rfl
theorem srr_47 : ("LibraryDesk$Threads", 97, "end", 47) ∈ srT := List.mem_of_getElem? (i := 47) rfl
theorem srr_48 : ("LibraryDesk$Threads", 99, "lock", 48) ∈ srT := List.mem_of_getElem? (i := 48) rfl
theorem srr_49 : ("LibraryDesk$Threads", 101, "try", 49) ∈ srT := List.mem_of_getElem? (i := 49) rfl
theorem srr_50 : ("LibraryDesk$Threads", 103, "unlock", 50) ∈ srT := List.mem_of_getElem? (i := 50) rfl
theorem srr_51 : ("LibraryDesk$Threads", 105, "wait", 51) ∈ srT := List.mem_of_getElem? (i := 51) rfl
theorem srr_52 : ("LibraryDesk$Threads", 107, "signal", 52) ∈ srT := List.mem_of_getElem? (i := 52) rfl
theorem srr_53 : ("LibraryDesk$Threads", 109, "all", 53) ∈ srT := List.mem_of_getElem? (i := 53) rfl
theorem srr_54 : ("LibraryDesk$Threads", 111, "get", 54) ∈ srT := List.mem_of_getElem? (i := 54) rfl
theorem srr_55 : ("LibraryDesk$Threads", 113, "set", 55) ∈ srT := List.mem_of_getElem? (i := 55) rfl
theorem srr_56 : ("LibraryDesk$Threads", 115, "inc", 56) ∈ srT := List.mem_of_getElem? (i := 56) rfl
theorem srr_57 : ("LibraryDesk$Threads", 117, "cas", 57) ∈ srT := List.mem_of_getElem? (i := 57) rfl
theorem srr_58 : ("LibraryDesk$Threads", 119, "acquire", 58) ∈ srT := List.mem_of_getElem? (i := 58) rfl
theorem srr_59 : ("LibraryDesk$Threads", 121, "release", 59) ∈ srT := List.mem_of_getElem? (i := 59) rfl
theorem srr_60 : ("LibraryDesk$Threads", 123, "drain", 60) ∈ srT := List.mem_of_getElem? (i := 60) rfl
theorem srr_61 : ("LibraryDesk$Threads", 125, "down", 61) ∈ srT := List.mem_of_getElem? (i := 61) rfl
theorem srr_62 : ("LibraryDesk$Threads", 127, "await", 62) ∈ srT := List.mem_of_getElem? (i := 62) rfl
theorem srr_63 : ("LibraryDesk$Threads", 129, "meet", 63) ∈ srT := List.mem_of_getElem? (i := 63) rfl
theorem srr_64 : ("LibraryDesk$Threads", 131, "put", 64) ∈ srT := List.mem_of_getElem? (i := 64) rfl
theorem srr_65 : ("LibraryDesk$Threads", 133, "take", 65) ∈ srT := List.mem_of_getElem? (i := 65) rfl
theorem srr_66 : ("LibraryDesk$Threads", 135, "offe\x72", 66) ∈ srT := List.mem_of_getElem? (i := 66) rfl
theorem srr_67 : ("LibraryDesk$Threads", 137, "poll", 67) ∈ srT := List.mem_of_getElem? (i := 67) rfl
theorem srr_68 : ("LibraryDesk$Threads", 139, "give", 68) ∈ srT := List.mem_of_getElem? (i := 68) rfl
theorem srr_69 : ("LibraryDesk$Threads", 141, "join", 69) ∈ srT := List.mem_of_getElem? (i := 69) rfl
theorem hdd_Threads_simple_ : yX13_simple.cls ≠ "java/lang/invoke/MethodHandle" ∧ yX13_simple.cls ≠ "java/lang/invoke/VarHandle" ∧ (parseMethodDescriptor yX13_simple.desc).map (fun d => d.parameters.length) = some 3 := by decide +kernel
theorem mok_Threads_simple : MOK m_Threads_simple := ⟨by decide +kernel, by decide, cd_Threads_simple, pg_Threads_simple⟩
theorem hdd_Threads_kindOf_ : yX13_kindOf.cls ≠ "java/lang/invoke/MethodHandle" ∧ yX13_kindOf.cls ≠ "java/lang/invoke/VarHandle" ∧ (parseMethodDescriptor yX13_kindOf.desc).map (fun d => d.parameters.length) = some 1 := by decide +kernel
theorem mok_Threads_kindOf : MOK m_Threads_kindOf := ⟨by decide +kernel, by decide, cd_Threads_kindOf, pg_Threads_kindOf⟩
theorem hdd_Threads_fail_ : yX13_fail.cls ≠ "java/lang/invoke/MethodHandle" ∧ yX13_fail.cls ≠ "java/lang/invoke/VarHandle" ∧ (parseMethodDescriptor yX13_fail.desc).map (fun d => d.parameters.length) = some 2 := by decide +kernel
theorem mok_Threads_fail : MOK m_Threads_fail := ⟨by decide +kernel, by decide, cd_Threads_fail, pg_Threads_fail⟩
theorem hdd_Threads_meet_ : yX13_meet.cls ≠ "java/lang/invoke/MethodHandle" ∧ yX13_meet.cls ≠ "java/lang/invoke/VarHandle" ∧ (parseMethodDescriptor yX13_meet.desc).map (fun d => d.parameters.length) = some 3 := by decide +kernel
theorem mok_Threads_meet : MOK m_Threads_meet := ⟨by decide +kernel, by decide, cd_Threads_meet, pg_Threads_meet⟩
theorem hdd_Threads_goOn_ : yX13_goOn.cls ≠ "java/lang/invoke/MethodHandle" ∧ yX13_goOn.cls ≠ "java/lang/invoke/VarHandle" ∧ (parseMethodDescriptor yX13_goOn.desc).map (fun d => d.parameters.length) = some 1 := by decide +kernel
theorem mok_Threads_goOn : MOK m_Threads_goOn := ⟨by decide +kernel, by decide, cd_Threads_goOn, pg_Threads_goOn⟩
theorem hdd_Threads_goTo_ : yX13_goTo.cls ≠ "java/lang/invoke/MethodHandle" ∧ yX13_goTo.cls ≠ "java/lang/invoke/VarHandle" ∧ (parseMethodDescriptor yX13_goTo.desc).map (fun d => d.parameters.length) = some 2 := by decide +kernel
theorem mok_Threads_goTo : MOK m_Threads_goTo := ⟨by decide +kernel, by decide, cd_Threads_goTo, pg_Threads_goTo⟩
theorem gf_Threads_55_23 : GF "LibraryDesk$Threads" "LibraryDesk$Threads" "LibraryDesk" 55 2 133 23 := ⟨RX13, TX13, 21, 13, by decide, clr_23, in_X13, by decide, rfl, Or.inl q1014, rfl⟩
theorem gf_Threads_220_23 : GF "LibraryDesk$Threads" "LibraryDesk$Threads" "LibraryDesk" 220 1 140 23 := ⟨RX13, TX13, 21, 20, by decide, clr_23, in_X13, by decide, rfl, Or.inl q1021, rfl⟩
theorem hdd_Threads_lock_ : yX13_lock.cls ≠ "java/lang/invoke/MethodHandle" ∧ yX13_lock.cls ≠ "java/lang/invoke/VarHandle" ∧ (parseMethodDescriptor yX13_lock.desc).map (fun d => d.parameters.length) = some 3 := by decide +kernel
theorem mok_Threads_lock : MOK m_Threads_lock := ⟨by decide +kernel, by decide, cd_Threads_lock, pg_Threads_lock⟩
theorem hdd_Threads_cell_ : yX13_cell.cls ≠ "java/lang/invoke/MethodHandle" ∧ yX13_cell.cls ≠ "java/lang/invoke/VarHandle" ∧ (parseMethodDescriptor yX13_cell.desc).map (fun d => d.parameters.length) = some 3 := by decide +kernel
theorem mok_Threads_cell : MOK m_Threads_cell := ⟨by decide +kernel, by decide, cd_Threads_cell, pg_Threads_cell⟩
theorem hdd_Threads_semaphore_ : yX13_semaphore.cls ≠ "java/lang/invoke/MethodHandle" ∧ yX13_semaphore.cls ≠ "java/lang/invoke/VarHandle" ∧ (parseMethodDescriptor yX13_semaphore.desc).map (fun d => d.parameters.length) = some 3 := by decide +kernel
theorem mok_Threads_semaphore : MOK m_Threads_semaphore := ⟨by decide +kernel, by decide, cd_Threads_semaphore, pg_Threads_semaphore⟩
theorem hdd_Threads_latch_ : yX13_latch.cls ≠ "java/lang/invoke/MethodHandle" ∧ yX13_latch.cls ≠ "java/lang/invoke/VarHandle" ∧ (parseMethodDescriptor yX13_latch.desc).map (fun d => d.parameters.length) = some 3 := by decide +kernel
theorem mok_Threads_latch : MOK m_Threads_latch := ⟨by decide +kernel, by decide, cd_Threads_latch, pg_Threads_latch⟩
theorem hdd_Threads_barrier_ : yX13_barrier.cls ≠ "java/lang/invoke/MethodHandle" ∧ yX13_barrier.cls ≠ "java/lang/invoke/VarHandle" ∧ (parseMethodDescriptor yX13_barrier.desc).map (fun d => d.parameters.length) = some 3 := by decide +kernel
theorem mok_Threads_barrier : MOK m_Threads_barrier := ⟨by decide +kernel, by decide, cd_Threads_barrier, pg_Threads_barrier⟩
theorem hdd_Threads_future_ : yX13_future.cls ≠ "java/lang/invoke/MethodHandle" ∧ yX13_future.cls ≠ "java/lang/invoke/VarHandle" ∧ (parseMethodDescriptor yX13_future.desc).map (fun d => d.parameters.length) = some 3 := by decide +kernel
theorem mok_Threads_future : MOK m_Threads_future := ⟨by decide +kernel, by decide, cd_Threads_future, pg_Threads_future⟩
theorem hdd_Threads_queue_ : yX13_queue.cls ≠ "java/lang/invoke/MethodHandle" ∧ yX13_queue.cls ≠ "java/lang/invoke/VarHandle" ∧ (parseMethodDescriptor yX13_queue.desc).map (fun d => d.parameters.length) = some 3 := by decide +kernel
theorem mok_Threads_queue : MOK m_Threads_queue := ⟨by decide +kernel, by decide, cd_Threads_queue, pg_Threads_queue⟩
theorem hdd_Threads_retry_ : yX13_retry.cls ≠ "java/lang/invoke/MethodHandle" ∧ yX13_retry.cls ≠ "java/lang/invoke/VarHandle" ∧ (parseMethodDescriptor yX13_retry.desc).map (fun d => d.parameters.length) = some 3 := by decide +kernel
theorem mok_Threads_retry : MOK m_Threads_retry := ⟨by decide +kernel, by decide, cd_Threads_retry, pg_Threads_retry⟩
theorem hdd_Threads_take_ : yX13_take.cls ≠ "java/lang/invoke/MethodHandle" ∧ yX13_take.cls ≠ "java/lang/invoke/VarHandle" ∧ (parseMethodDescriptor yX13_take.desc).map (fun d => d.parameters.length) = some 2 := by decide +kernel
theorem mok_Threads_take : MOK m_Threads_take := ⟨by decide +kernel, by decide, cd_Threads_take, pg_Threads_take⟩
theorem hdd_Threads_enter_ : yX13_enter.cls ≠ "java/lang/invoke/MethodHandle" ∧ yX13_enter.cls ≠ "java/lang/invoke/VarHandle" ∧ (parseMethodDescriptor yX13_enter.desc).map (fun d => d.parameters.length) = some 3 := by decide +kernel
theorem mok_Threads_enter : MOK m_Threads_enter := ⟨by decide +kernel, by decide, cd_Threads_enter, pg_Threads_enter⟩
theorem hdd_Threads_ownLock_ : yX13_ownLock.cls ≠ "java/lang/invoke/MethodHandle" ∧ yX13_ownLock.cls ≠ "java/lang/invoke/VarHandle" ∧ (parseMethodDescriptor yX13_ownLock.desc).map (fun d => d.parameters.length) = some 3 := by decide +kernel
theorem mok_Threads_ownLock : MOK m_Threads_ownLock := ⟨by decide +kernel, by decide, cd_Threads_ownLock, pg_Threads_ownLock⟩
theorem hdd_Threads_obtain_ : yX13_obtain.cls ≠ "java/lang/invoke/MethodHandle" ∧ yX13_obtain.cls ≠ "java/lang/invoke/VarHandle" ∧ (parseMethodDescriptor yX13_obtain.desc).map (fun d => d.parameters.length) = some 2 := by decide +kernel
theorem mok_Threads_obtain : MOK m_Threads_obtain := ⟨by decide +kernel, by decide, cd_Threads_obtain, pg_Threads_obtain⟩
theorem hdd_Row_remove_ : yX35_remove.cls ≠ "java/lang/invoke/MethodHandle" ∧ yX35_remove.cls ≠ "java/lang/invoke/VarHandle" ∧ (parseMethodDescriptor yX35_remove.desc).map (fun d => d.parameters.length) = some 1 := by decide +kernel
theorem mok_Row_remove : MOK m_Row_remove := ⟨by decide +kernel, by decide, cd_Row_remove, pg_Row_remove⟩
theorem pf_Threads_255_44 {m : Nat} : PF m "LibraryDesk$Threads" "LibraryDesk$SyncThing" "LibraryDesk" 255 0 358 .int 44 := ⟨RX34, TX34, 10, 5, tyX34, by decide, clr_44, in_X34, tyX34_ok, nmX34, by decide, rfl, nd_44, Or.inr (Or.inl ⟨nw1846, rfl⟩), rfl, by decide +kernel⟩
theorem hdd_Threads_isAtWait_ : yX13_isAtWait.cls ≠ "java/lang/invoke/MethodHandle" ∧ yX13_isAtWait.cls ≠ "java/lang/invoke/VarHandle" ∧ (parseMethodDescriptor yX13_isAtWait.desc).map (fun d => d.parameters.length) = some 1 := by decide +kernel
theorem mok_Threads_isAtWait : MOK m_Threads_isAtWait := ⟨by decide +kernel, by decide, cd_Threads_isAtWait, pg_Threads_isAtWait⟩
theorem gf_Threads_59_23 : GF "LibraryDesk$Threads" "LibraryDesk$Threads" "LibraryDesk" 59 2 134 23 := ⟨RX13, TX13, 21, 14, by decide, clr_23, in_X13, by decide, rfl, Or.inl q1015, rfl⟩
theorem pf_Threads_265_44 {m : Nat} : PF m "LibraryDesk$Threads" "LibraryDesk$SyncThing" "LibraryDesk" 265 0 355 .int 44 := ⟨RX34, TX34, 10, 2, tyX34, by decide, clr_44, in_X34, tyX34_ok, nmX34, by decide, rfl, nd_44, Or.inr (Or.inl ⟨nw1840, rfl⟩), rfl, by decide +kernel⟩
theorem gf_Threads_62_23 : GF "LibraryDesk$Threads" "LibraryDesk$Threads" "LibraryDesk" 62 2 135 23 := ⟨RX13, TX13, 21, 15, by decide, clr_23, in_X13, by decide, rfl, Or.inl q1016, rfl⟩
theorem gf_Threads_265_44 : GF "LibraryDesk$Threads" "LibraryDesk$SyncThing" "LibraryDesk" 265 0 355 44 := ⟨RX34, TX34, 10, 2, by decide, clr_44, in_X34, by decide, rfl, Or.inr nw1840, rfl⟩
theorem hdd_Row_add_ : yX35_add.cls ≠ "java/lang/invoke/MethodHandle" ∧ yX35_add.cls ≠ "java/lang/invoke/VarHandle" ∧ (parseMethodDescriptor yX35_add.desc).map (fun d => d.parameters.length) = some 1 := by decide +kernel
theorem mok_Row_add : MOK m_Row_add := ⟨by decide +kernel, by decide, cd_Row_add, pg_Row_add⟩
theorem hdd_Threads_free_ : yX13_free.cls ≠ "java/lang/invoke/MethodHandle" ∧ yX13_free.cls ≠ "java/lang/invoke/VarHandle" ∧ (parseMethodDescriptor yX13_free.desc).map (fun d => d.parameters.length) = some 1 := by decide +kernel
theorem mok_Threads_free : MOK m_Threads_free := ⟨by decide +kernel, by decide, cd_Threads_free, pg_Threads_free⟩
theorem hdd_Threads_waits_ : yX13_waits.cls ≠ "java/lang/invoke/MethodHandle" ∧ yX13_waits.cls ≠ "java/lang/invoke/VarHandle" ∧ (parseMethodDescriptor yX13_waits.desc).map (fun d => d.parameters.length) = some 3 := by decide +kernel
theorem mok_Threads_waits : MOK m_Threads_waits := ⟨by decide +kernel, by decide, cd_Threads_waits, pg_Threads_waits⟩
theorem gf_Threads_272_44 : GF "LibraryDesk$Threads" "LibraryDesk$SyncThing" "LibraryDesk" 272 2 360 44 := ⟨RX34, TX34, 10, 7, by decide, clr_44, in_X34, by decide, rfl, Or.inr nw1851, rfl⟩
theorem gf_Threads_279_45 : GF "LibraryDesk$Threads" "LibraryDesk$Row" "LibraryDesk" 279 0 364 45 := ⟨RX35, TX35, 2, 1, by decide, clr_45, in_X35, by decide, rfl, Or.inr nw1832, rfl⟩
theorem hdd_Threads_signal_ : yX13_signal.cls ≠ "java/lang/invoke/MethodHandle" ∧ yX13_signal.cls ≠ "java/lang/invoke/VarHandle" ∧ (parseMethodDescriptor yX13_signal.desc).map (fun d => d.parameters.length) = some 2 := by decide +kernel
theorem mok_Threads_signal : MOK m_Threads_signal := ⟨by decide +kernel, by decide, cd_Threads_signal, pg_Threads_signal⟩
theorem hdd_Row_first_ : yX35_first.cls ≠ "java/lang/invoke/MethodHandle" ∧ yX35_first.cls ≠ "java/lang/invoke/VarHandle" ∧ (parseMethodDescriptor yX35_first.desc).map (fun d => d.parameters.length) = some 0 := by decide +kernel
theorem mok_Row_first : MOK m_Row_first := ⟨by decide +kernel, by decide, cd_Row_first, pg_Row_first⟩
theorem hdd_Threads_wake_ : yX13_wake.cls ≠ "java/lang/invoke/MethodHandle" ∧ yX13_wake.cls ≠ "java/lang/invoke/VarHandle" ∧ (parseMethodDescriptor yX13_wake.desc).map (fun d => d.parameters.length) = some 1 := by decide +kernel
theorem mok_Threads_wake : MOK m_Threads_wake := ⟨by decide +kernel, by decide, cd_Threads_wake, pg_Threads_wake⟩
theorem gf_Threads_294_44 : GF "LibraryDesk$Threads" "LibraryDesk$SyncThing" "LibraryDesk" 294 0 356 44 := ⟨RX34, TX34, 10, 3, by decide, clr_44, in_X34, by decide, rfl, Or.inr nw1842, rfl⟩
theorem hdd_Threads_serve_ : yX13_serve.cls ≠ "java/lang/invoke/MethodHandle" ∧ yX13_serve.cls ≠ "java/lang/invoke/VarHandle" ∧ (parseMethodDescriptor yX13_serve.desc).map (fun d => d.parameters.length) = some 1 := by decide +kernel
theorem mok_Threads_serve : MOK m_Threads_serve := ⟨by decide +kernel, by decide, cd_Threads_serve, pg_Threads_serve⟩
theorem hdd_Threads_release_ : yX13_release.cls ≠ "java/lang/invoke/MethodHandle" ∧ yX13_release.cls ≠ "java/lang/invoke/VarHandle" ∧ (parseMethodDescriptor yX13_release.desc).map (fun d => d.parameters.length) = some 1 := by decide +kernel
theorem mok_Threads_release : MOK m_Threads_release := ⟨by decide +kernel, by decide, cd_Threads_release, pg_Threads_release⟩
theorem gf_Threads_308_44 : GF "LibraryDesk$Threads" "LibraryDesk$SyncThing" "LibraryDesk" 308 0 357 44 := ⟨RX34, TX34, 10, 4, by decide, clr_44, in_X34, by decide, rfl, Or.inr nw1844, rfl⟩
theorem pf_Threads_308_44 {m : Nat} : PF m "LibraryDesk$Threads" "LibraryDesk$SyncThing" "LibraryDesk" 308 0 357 .boolean 44 := ⟨RX34, TX34, 10, 4, tyX34, by decide, clr_44, in_X34, tyX34_ok, nmX34, by decide, rfl, nd_44, Or.inr (Or.inl ⟨nw1844, rfl⟩), rfl, by decide +kernel⟩
theorem gf_Threads_311_45 : GF "LibraryDesk$Threads" "LibraryDesk$Row" "LibraryDesk" 311 2 363 45 := ⟨RX35, TX35, 2, 0, by decide, clr_45, in_X35, by decide, rfl, Or.inr nw1829, rfl⟩
theorem gf_Threads_314_44 : GF "LibraryDesk$Threads" "LibraryDesk$SyncThing" "LibraryDesk" 314 0 362 44 := ⟨RX34, TX34, 10, 9, by decide, clr_44, in_X34, by decide, rfl, Or.inr nw1855, rfl⟩
theorem hdd_Threads_put_ : yX13_put.cls ≠ "java/lang/invoke/MethodHandle" ∧ yX13_put.cls ≠ "java/lang/invoke/VarHandle" ∧ (parseMethodDescriptor yX13_put.desc).map (fun d => d.parameters.length) = some 3 := by decide +kernel
theorem mok_Threads_put : MOK m_Threads_put := ⟨by decide +kernel, by decide, cd_Threads_put, pg_Threads_put⟩
theorem hdd_SyncThing_take_ : yX34_take.cls ≠ "java/lang/invoke/MethodHandle" ∧ yX34_take.cls ≠ "java/lang/invoke/VarHandle" ∧ (parseMethodDescriptor yX34_take.desc).map (fun d => d.parameters.length) = some 0 := by decide +kernel
theorem mok_SyncThing_take : MOK m_SyncThing_take := ⟨by decide +kernel, by decide, cd_SyncThing_take, pg_SyncThing_take⟩
theorem hdd_SyncThing_put_ : yX34_put.cls ≠ "java/lang/invoke/MethodHandle" ∧ yX34_put.cls ≠ "java/lang/invoke/VarHandle" ∧ (parseMethodDescriptor yX34_put.desc).map (fun d => d.parameters.length) = some 1 := by decide +kernel
theorem mok_SyncThing_put : MOK m_SyncThing_put := ⟨by decide +kernel, by decide, cd_SyncThing_put, pg_SyncThing_put⟩
theorem pf_Threads_220_23 {m : Nat} : PF m "LibraryDesk$Threads" "LibraryDesk$Threads" "LibraryDesk" 220 1 140 .long 23 := ⟨RX13, TX13, 21, 20, tyX13, by decide, clr_23, in_X13, tyX13_ok, nmX13, by decide, rfl, nd_23, Or.inl ⟨q1021, rfl⟩, rfl, by decide +kernel⟩
theorem nd_24 : va_nd ((flT 24).map (·.2)) = true := by decide +kernel
theorem clr_24 : clT[clI 24]? = some (RX14, TX14, 131) := rfl
theorem pf_Md_init_11_24 : PF m_Md_init "LibraryDeskModel" "LibraryDeskModel" "LibraryDesk" 11 2 142 (.array .int) 24 := ⟨RX14, TX14, 131, 1, tyX14, by decide, clr_24, in_X14, tyX14_ok, nmX14, by decide, rfl, nd_24, Or.inr (Or.inr ⟨q4494, rfl, rfl, rfl⟩), rfl, by decide +kernel⟩
theorem pf_Md_15_24 {m : Nat} : PF m "LibraryDeskModel" "LibraryDeskModel" "LibraryDesk" 15 2 144 (.array .int) 24 := ⟨RX14, TX14, 131, 3, tyX14, by decide, clr_24, in_X14, tyX14_ok, nmX14, by decide, rfl, nd_24, Or.inl ⟨q4496, rfl⟩, rfl, by decide +kernel⟩
theorem pf_Md_18_24 {m : Nat} : PF m "LibraryDeskModel" "LibraryDeskModel" "LibraryDesk" 18 2 146 (.array .int) 24 := ⟨RX14, TX14, 131, 5, tyX14, by decide, clr_24, in_X14, tyX14_ok, nmX14, by decide, rfl, nd_24, Or.inl ⟨q4498, rfl⟩, rfl, by decide +kernel⟩
theorem pf_Md_21_24 {m : Nat} : PF m "LibraryDeskModel" "LibraryDeskModel" "LibraryDesk" 21 0 148 .int 24 := ⟨RX14, TX14, 131, 7, tyX14, by decide, clr_24, in_X14, tyX14_ok, nmX14, by decide, rfl, nd_24, Or.inl ⟨q4500, rfl⟩, rfl, by decide +kernel⟩
theorem pf_Md_init_25_24 : PF m_Md_init "LibraryDeskModel" "LibraryDeskModel" "LibraryDesk" 25 2 149 (.array .int) 24 := ⟨RX14, TX14, 131, 8, tyX14, by decide, clr_24, in_X14, tyX14_ok, nmX14, by decide, rfl, nd_24, Or.inr (Or.inr ⟨q4501, rfl, rfl, rfl⟩), rfl, by decide +kernel⟩
theorem pf_Md_init_29_24 : PF m_Md_init "LibraryDeskModel" "LibraryDeskModel" "LibraryDesk" 29 2 150 (.array (.array .int)) 24 := ⟨RX14, TX14, 131, 9, tyX14, by decide, clr_24, in_X14, tyX14_ok, nmX14, by decide, rfl, nd_24, Or.inr (Or.inr ⟨q4502, rfl, rfl, rfl⟩), rfl, by decide +kernel⟩
theorem pf_Md_init_33_24 : PF m_Md_init "LibraryDeskModel" "LibraryDeskModel" "LibraryDesk" 33 2 151 (.array .int) 24 := ⟨RX14, TX14, 131, 10, tyX14, by decide, clr_24, in_X14, tyX14_ok, nmX14, by decide, rfl, nd_24, Or.inr (Or.inr ⟨q4503, rfl, rfl, rfl⟩), rfl, by decide +kernel⟩
theorem pf_Md_init_36_24 : PF m_Md_init "LibraryDeskModel" "LibraryDeskModel" "LibraryDesk" 36 2 152 (.array .int) 24 := ⟨RX14, TX14, 131, 11, tyX14, by decide, clr_24, in_X14, tyX14_ok, nmX14, by decide, rfl, nd_24, Or.inr (Or.inr ⟨q4504, rfl, rfl, rfl⟩), rfl, by decide +kernel⟩
theorem pf_Md_init_39_24 : PF m_Md_init "LibraryDeskModel" "LibraryDeskModel" "LibraryDesk" 39 2 153 (.array .int) 24 := ⟨RX14, TX14, 131, 12, tyX14, by decide, clr_24, in_X14, tyX14_ok, nmX14, by decide, rfl, nd_24, Or.inr (Or.inr ⟨q4505, rfl, rfl, rfl⟩), rfl, by decide +kernel⟩
theorem pf_Md_init_42_24 : PF m_Md_init "LibraryDeskModel" "LibraryDeskModel" "LibraryDesk" 42 2 154 (.array .int) 24 := ⟨RX14, TX14, 131, 13, tyX14, by decide, clr_24, in_X14, tyX14_ok, nmX14, by decide, rfl, nd_24, Or.inr (Or.inr ⟨q4506, rfl, rfl, rfl⟩), rfl, by decide +kernel⟩
theorem pf_Md_init_45_24 : PF m_Md_init "LibraryDeskModel" "LibraryDeskModel" "LibraryDesk" 45 2 155 (.array .int) 24 := ⟨RX14, TX14, 131, 14, tyX14, by decide, clr_24, in_X14, tyX14_ok, nmX14, by decide, rfl, nd_24, Or.inr (Or.inr ⟨q4507, rfl, rfl, rfl⟩), rfl, by decide +kernel⟩
theorem pf_Md_init_48_24 : PF m_Md_init "LibraryDeskModel" "LibraryDeskModel" "LibraryDesk" 48 2 156 (.array .int) 24 := ⟨RX14, TX14, 131, 15, tyX14, by decide, clr_24, in_X14, tyX14_ok, nmX14, by decide, rfl, nd_24, Or.inr (Or.inr ⟨q4508, rfl, rfl, rfl⟩), rfl, by decide +kernel⟩
theorem pf_Md_init_51_24 : PF m_Md_init "LibraryDeskModel" "LibraryDeskModel" "LibraryDesk" 51 2 157 (.array .int) 24 := ⟨RX14, TX14, 131, 16, tyX14, by decide, clr_24, in_X14, tyX14_ok, nmX14, by decide, rfl, nd_24, Or.inr (Or.inr ⟨q4509, rfl, rfl, rfl⟩), rfl, by decide +kernel⟩
theorem pf_Md_init_54_24 : PF m_Md_init "LibraryDeskModel" "LibraryDeskModel" "LibraryDesk" 54 2 158 (.array .int) 24 := ⟨RX14, TX14, 131, 17, tyX14, by decide, clr_24, in_X14, tyX14_ok, nmX14, by decide, rfl, nd_24, Or.inr (Or.inr ⟨q4510, rfl, rfl, rfl⟩), rfl, by decide +kernel⟩
theorem pf_Md_init_57_24 : PF m_Md_init "LibraryDeskModel" "LibraryDeskModel" "LibraryDesk" 57 2 159 (.array .int) 24 := ⟨RX14, TX14, 131, 18, tyX14, by decide, clr_24, in_X14, tyX14_ok, nmX14, by decide, rfl, nd_24, Or.inr (Or.inr ⟨q4511, rfl, rfl, rfl⟩), rfl, by decide +kernel⟩
theorem pf_Md_init_60_24 : PF m_Md_init "LibraryDeskModel" "LibraryDeskModel" "LibraryDesk" 60 2 160 (.array .int) 24 := ⟨RX14, TX14, 131, 19, tyX14, by decide, clr_24, in_X14, tyX14_ok, nmX14, by decide, rfl, nd_24, Or.inr (Or.inr ⟨q4512, rfl, rfl, rfl⟩), rfl, by decide +kernel⟩
theorem pf_Md_init_63_24 : PF m_Md_init "LibraryDeskModel" "LibraryDeskModel" "LibraryDesk" 63 2 161 (.array .int) 24 := ⟨RX14, TX14, 131, 20, tyX14, by decide, clr_24, in_X14, tyX14_ok, nmX14, by decide, rfl, nd_24, Or.inr (Or.inr ⟨q4513, rfl, rfl, rfl⟩), rfl, by decide +kernel⟩
theorem pf_Md_init_66_24 : PF m_Md_init "LibraryDeskModel" "LibraryDeskModel" "LibraryDesk" 66 2 162 (.array .boolean) 24 := ⟨RX14, TX14, 131, 21, tyX14, by decide, clr_24, in_X14, tyX14_ok, nmX14, by decide, rfl, nd_24, Or.inr (Or.inr ⟨q4514, rfl, rfl, rfl⟩), rfl, by decide +kernel⟩
theorem pf_Md_init_70_24 : PF m_Md_init "LibraryDeskModel" "LibraryDeskModel" "LibraryDesk" 70 2 164 (.array .boolean) 24 := ⟨RX14, TX14, 131, 23, tyX14, by decide, clr_24, in_X14, tyX14_ok, nmX14, by decide, rfl, nd_24, Or.inr (Or.inr ⟨q4516, rfl, rfl, rfl⟩), rfl, by decide +kernel⟩
theorem pf_Md_init_73_24 : PF m_Md_init "LibraryDeskModel" "LibraryDeskModel" "LibraryDesk" 73 2 165 (.array .int) 24 := ⟨RX14, TX14, 131, 24, tyX14, by decide, clr_24, in_X14, tyX14_ok, nmX14, by decide, rfl, nd_24, Or.inr (Or.inr ⟨q4517, rfl, rfl, rfl⟩), rfl, by decide +kernel⟩
theorem pf_Md_init_76_24 : PF m_Md_init "LibraryDeskModel" "LibraryDeskModel" "LibraryDesk" 76 2 167 (.array .int) 24 := ⟨RX14, TX14, 131, 26, tyX14, by decide, clr_24, in_X14, tyX14_ok, nmX14, by decide, rfl, nd_24, Or.inr (Or.inr ⟨q4519, rfl, rfl, rfl⟩), rfl, by decide +kernel⟩
theorem pf_Md_init_79_24 : PF m_Md_init "LibraryDeskModel" "LibraryDeskModel" "LibraryDesk" 79 2 168 (.array .int) 24 := ⟨RX14, TX14, 131, 27, tyX14, by decide, clr_24, in_X14, tyX14_ok, nmX14, by decide, rfl, nd_24, Or.inr (Or.inr ⟨q4520, rfl, rfl, rfl⟩), rfl, by decide +kernel⟩
theorem pf_Md_init_82_24 : PF m_Md_init "LibraryDeskModel" "LibraryDeskModel" "LibraryDesk" 82 2 169 (.array .int) 24 := ⟨RX14, TX14, 131, 28, tyX14, by decide, clr_24, in_X14, tyX14_ok, nmX14, by decide, rfl, nd_24, Or.inr (Or.inr ⟨q4521, rfl, rfl, rfl⟩), rfl, by decide +kernel⟩
theorem pf_Md_init_85_24 : PF m_Md_init "LibraryDeskModel" "LibraryDeskModel" "LibraryDesk" 85 2 170 (.array .int) 24 := ⟨RX14, TX14, 131, 29, tyX14, by decide, clr_24, in_X14, tyX14_ok, nmX14, by decide, rfl, nd_24, Or.inr (Or.inr ⟨q4522, rfl, rfl, rfl⟩), rfl, by decide +kernel⟩
theorem pf_Md_init_88_24 : PF m_Md_init "LibraryDeskModel" "LibraryDeskModel" "LibraryDesk" 88 2 171 (.array .int) 24 := ⟨RX14, TX14, 131, 30, tyX14, by decide, clr_24, in_X14, tyX14_ok, nmX14, by decide, rfl, nd_24, Or.inr (Or.inr ⟨q4523, rfl, rfl, rfl⟩), rfl, by decide +kernel⟩
theorem pf_Md_init_91_24 : PF m_Md_init "LibraryDeskModel" "LibraryDeskModel" "LibraryDesk" 91 2 172 (.array .int) 24 := ⟨RX14, TX14, 131, 31, tyX14, by decide, clr_24, in_X14, tyX14_ok, nmX14, by decide, rfl, nd_24, Or.inr (Or.inr ⟨q4524, rfl, rfl, rfl⟩), rfl, by decide +kernel⟩
theorem pf_Md_init_94_24 : PF m_Md_init "LibraryDeskModel" "LibraryDeskModel" "LibraryDesk" 94 2 173 (.array .int) 24 := ⟨RX14, TX14, 131, 32, tyX14, by decide, clr_24, in_X14, tyX14_ok, nmX14, by decide, rfl, nd_24, Or.inr (Or.inr ⟨q4525, rfl, rfl, rfl⟩), rfl, by decide +kernel⟩
theorem pf_Md_init_97_24 : PF m_Md_init "LibraryDeskModel" "LibraryDeskModel" "LibraryDesk" 97 2 174 (.array .int) 24 := ⟨RX14, TX14, 131, 33, tyX14, by decide, clr_24, in_X14, tyX14_ok, nmX14, by decide, rfl, nd_24, Or.inr (Or.inr ⟨q4526, rfl, rfl, rfl⟩), rfl, by decide +kernel⟩
theorem pf_Md_init_100_24 : PF m_Md_init "LibraryDeskModel" "LibraryDeskModel" "LibraryDesk" 100 2 175 (.array .boolean) 24 := ⟨RX14, TX14, 131, 34, tyX14, by decide, clr_24, in_X14, tyX14_ok, nmX14, by decide, rfl, nd_24, Or.inr (Or.inr ⟨q4527, rfl, rfl, rfl⟩), rfl, by decide +kernel⟩
theorem pf_Md_init_103_24 : PF m_Md_init "LibraryDeskModel" "LibraryDeskModel" "LibraryDesk" 103 2 177 (.array .long) 24 := ⟨RX14, TX14, 131, 36, tyX14, by decide, clr_24, in_X14, tyX14_ok, nmX14, by decide, rfl, nd_24, Or.inr (Or.inr ⟨q4529, rfl, rfl, rfl⟩), rfl, by decide +kernel⟩
theorem pf_Md_107_24 {m : Nat} : PF m "LibraryDeskModel" "LibraryDeskModel" "LibraryDesk" 107 2 181 (.array .int) 24 := ⟨RX14, TX14, 131, 40, tyX14, by decide, clr_24, in_X14, tyX14_ok, nmX14, by decide, rfl, nd_24, Or.inl ⟨q4533, rfl⟩, rfl, by decide +kernel⟩
theorem pf_Md_init_110_24 : PF m_Md_init "LibraryDeskModel" "LibraryDeskModel" "LibraryDesk" 110 2 185 (.array .int) 24 := ⟨RX14, TX14, 131, 44, tyX14, by decide, clr_24, in_X14, tyX14_ok, nmX14, by decide, rfl, nd_24, Or.inr (Or.inr ⟨q4537, rfl, rfl, rfl⟩), rfl, by decide +kernel⟩
theorem pf_Md_init_113_24 : PF m_Md_init "LibraryDeskModel" "LibraryDeskModel" "LibraryDesk" 113 2 186 (.array .int) 24 := ⟨RX14, TX14, 131, 45, tyX14, by decide, clr_24, in_X14, tyX14_ok, nmX14, by decide, rfl, nd_24, Or.inr (Or.inr ⟨q4538, rfl, rfl, rfl⟩), rfl, by decide +kernel⟩
theorem pf_Md_init_116_24 : PF m_Md_init "LibraryDeskModel" "LibraryDeskModel" "LibraryDesk" 116 2 187 (.array .int) 24 := ⟨RX14, TX14, 131, 46, tyX14, by decide, clr_24, in_X14, tyX14_ok, nmX14, by decide, rfl, nd_24, Or.inr (Or.inr ⟨q4539, rfl, rfl, rfl⟩), rfl, by decide +kernel⟩
theorem pf_Md_init_119_24 : PF m_Md_init "LibraryDeskModel" "LibraryDeskModel" "LibraryDesk" 119 2 188 (.array .int) 24 := ⟨RX14, TX14, 131, 47, tyX14, by decide, clr_24, in_X14, tyX14_ok, nmX14, by decide, rfl, nd_24, Or.inr (Or.inr ⟨q4540, rfl, rfl, rfl⟩), rfl, by decide +kernel⟩
theorem pf_Md_init_122_24 : PF m_Md_init "LibraryDeskModel" "LibraryDeskModel" "LibraryDesk" 122 2 192 (.array .int) 24 := ⟨RX14, TX14, 131, 51, tyX14, by decide, clr_24, in_X14, tyX14_ok, nmX14, by decide, rfl, nd_24, Or.inr (Or.inr ⟨q4544, rfl, rfl, rfl⟩), rfl, by decide +kernel⟩
theorem pf_Md_init_125_24 : PF m_Md_init "LibraryDeskModel" "LibraryDeskModel" "LibraryDesk" 125 2 193 (.array .int) 24 := ⟨RX14, TX14, 131, 52, tyX14, by decide, clr_24, in_X14, tyX14_ok, nmX14, by decide, rfl, nd_24, Or.inr (Or.inr ⟨q4545, rfl, rfl, rfl⟩), rfl, by decide +kernel⟩
theorem pf_Md_init_128_24 : PF m_Md_init "LibraryDeskModel" "LibraryDeskModel" "LibraryDesk" 128 2 194 (.array .int) 24 := ⟨RX14, TX14, 131, 53, tyX14, by decide, clr_24, in_X14, tyX14_ok, nmX14, by decide, rfl, nd_24, Or.inr (Or.inr ⟨q4546, rfl, rfl, rfl⟩), rfl, by decide +kernel⟩
theorem pf_Md_init_131_24 : PF m_Md_init "LibraryDeskModel" "LibraryDeskModel" "LibraryDesk" 131 2 198 (.array .int) 24 := ⟨RX14, TX14, 131, 57, tyX14, by decide, clr_24, in_X14, tyX14_ok, nmX14, by decide, rfl, nd_24, Or.inr (Or.inr ⟨q4550, rfl, rfl, rfl⟩), rfl, by decide +kernel⟩
theorem pf_Md_init_134_24 : PF m_Md_init "LibraryDeskModel" "LibraryDeskModel" "LibraryDesk" 134 2 199 (.array .int) 24 := ⟨RX14, TX14, 131, 58, tyX14, by decide, clr_24, in_X14, tyX14_ok, nmX14, by decide, rfl, nd_24, Or.inr (Or.inr ⟨q4551, rfl, rfl, rfl⟩), rfl, by decide +kernel⟩
theorem pf_Md_init_137_24 : PF m_Md_init "LibraryDeskModel" "LibraryDeskModel" "LibraryDesk" 137 2 200 (.array .int) 24 := ⟨RX14, TX14, 131, 59, tyX14, by decide, clr_24, in_X14, tyX14_ok, nmX14, by decide, rfl, nd_24, Or.inr (Or.inr ⟨q4552, rfl, rfl, rfl⟩), rfl, by decide +kernel⟩
theorem pf_Md_140_24 {m : Nat} : PF m "LibraryDeskModel" "LibraryDeskModel" "LibraryDesk" 140 2 203 (.array .int) 24 := ⟨RX14, TX14, 131, 62, tyX14, by decide, clr_24, in_X14, tyX14_ok, nmX14, by decide, rfl, nd_24, Or.inl ⟨q4555, rfl⟩, rfl, by decide +kernel⟩
theorem pf_Md_143_24 {m : Nat} : PF m "LibraryDeskModel" "LibraryDeskModel" "LibraryDesk" 143 2 205 (.array .long) 24 := ⟨RX14, TX14, 131, 64, tyX14, by decide, clr_24, in_X14, tyX14_ok, nmX14, by decide, rfl, nd_24, Or.inl ⟨q4557, rfl⟩, rfl, by decide +kernel⟩
theorem pf_Md_init_146_24 : PF m_Md_init "LibraryDeskModel" "LibraryDeskModel" "LibraryDesk" 146 2 206 (.array .int) 24 := ⟨RX14, TX14, 131, 65, tyX14, by decide, clr_24, in_X14, tyX14_ok, nmX14, by decide, rfl, nd_24, Or.inr (Or.inr ⟨q4558, rfl, rfl, rfl⟩), rfl, by decide +kernel⟩
theorem pf_Md_init_149_24 : PF m_Md_init "LibraryDeskModel" "LibraryDeskModel" "LibraryDesk" 149 2 212 (.array .int) 24 := ⟨RX14, TX14, 131, 71, tyX14, by decide, clr_24, in_X14, tyX14_ok, nmX14, by decide, rfl, nd_24, Or.inr (Or.inr ⟨q4564, rfl, rfl, rfl⟩), rfl, by decide +kernel⟩
theorem pf_Md_init_152_24 : PF m_Md_init "LibraryDeskModel" "LibraryDeskModel" "LibraryDesk" 152 2 214 (.array (.array .int)) 24 := ⟨RX14, TX14, 131, 73, tyX14, by decide, clr_24, in_X14, tyX14_ok, nmX14, by decide, rfl, nd_24, Or.inr (Or.inr ⟨q4566, rfl, rfl, rfl⟩), rfl, by decide +kernel⟩
theorem pf_Md_init_155_24 : PF m_Md_init "LibraryDeskModel" "LibraryDeskModel" "LibraryDesk" 155 2 215 (.array .int) 24 := ⟨RX14, TX14, 131, 74, tyX14, by decide, clr_24, in_X14, tyX14_ok, nmX14, by decide, rfl, nd_24, Or.inr (Or.inr ⟨q4567, rfl, rfl, rfl⟩), rfl, by decide +kernel⟩
theorem pf_Md_init_158_24 : PF m_Md_init "LibraryDeskModel" "LibraryDeskModel" "LibraryDesk" 158 2 216 (.array .int) 24 := ⟨RX14, TX14, 131, 75, tyX14, by decide, clr_24, in_X14, tyX14_ok, nmX14, by decide, rfl, nd_24, Or.inr (Or.inr ⟨q4568, rfl, rfl, rfl⟩), rfl, by decide +kernel⟩
theorem pf_Md_init_161_24 : PF m_Md_init "LibraryDeskModel" "LibraryDeskModel" "LibraryDesk" 161 2 217 (.array (.array .int)) 24 := ⟨RX14, TX14, 131, 76, tyX14, by decide, clr_24, in_X14, tyX14_ok, nmX14, by decide, rfl, nd_24, Or.inr (Or.inr ⟨q4569, rfl, rfl, rfl⟩), rfl, by decide +kernel⟩
theorem pf_Md_init_164_24 : PF m_Md_init "LibraryDeskModel" "LibraryDeskModel" "LibraryDesk" 164 2 218 (.array .int) 24 := ⟨RX14, TX14, 131, 77, tyX14, by decide, clr_24, in_X14, tyX14_ok, nmX14, by decide, rfl, nd_24, Or.inr (Or.inr ⟨q4570, rfl, rfl, rfl⟩), rfl, by decide +kernel⟩
theorem pf_Md_init_167_24 : PF m_Md_init "LibraryDeskModel" "LibraryDeskModel" "LibraryDesk" 167 2 219 (.array .int) 24 := ⟨RX14, TX14, 131, 78, tyX14, by decide, clr_24, in_X14, tyX14_ok, nmX14, by decide, rfl, nd_24, Or.inr (Or.inr ⟨q4571, rfl, rfl, rfl⟩), rfl, by decide +kernel⟩
theorem pf_Md_init_170_24 : PF m_Md_init "LibraryDeskModel" "LibraryDeskModel" "LibraryDesk" 170 2 220 (.array .int) 24 := ⟨RX14, TX14, 131, 79, tyX14, by decide, clr_24, in_X14, tyX14_ok, nmX14, by decide, rfl, nd_24, Or.inr (Or.inr ⟨q4572, rfl, rfl, rfl⟩), rfl, by decide +kernel⟩
theorem pf_Md_init_173_24 : PF m_Md_init "LibraryDeskModel" "LibraryDeskModel" "LibraryDesk" 173 2 224 (.array .int) 24 := ⟨RX14, TX14, 131, 83, tyX14, by decide, clr_24, in_X14, tyX14_ok, nmX14, by decide, rfl, nd_24, Or.inr (Or.inr ⟨q4575, rfl, rfl, rfl⟩), rfl, by decide +kernel⟩
theorem pf_Md_init_176_24 : PF m_Md_init "LibraryDeskModel" "LibraryDeskModel" "LibraryDesk" 176 2 225 (.array .int) 24 := ⟨RX14, TX14, 131, 84, tyX14, by decide, clr_24, in_X14, tyX14_ok, nmX14, by decide, rfl, nd_24, Or.inr (Or.inr ⟨q4576, rfl, rfl, rfl⟩), rfl, by decide +kernel⟩
theorem pf_Md_init_179_24 : PF m_Md_init "LibraryDeskModel" "LibraryDeskModel" "LibraryDesk" 179 2 226 (.array .int) 24 := ⟨RX14, TX14, 131, 85, tyX14, by decide, clr_24, in_X14, tyX14_ok, nmX14, by decide, rfl, nd_24, Or.inr (Or.inr ⟨q4577, rfl, rfl, rfl⟩), rfl, by decide +kernel⟩
theorem pf_Md_init_182_24 : PF m_Md_init "LibraryDeskModel" "LibraryDeskModel" "LibraryDesk" 182 2 227 (.array .int) 24 := ⟨RX14, TX14, 131, 86, tyX14, by decide, clr_24, in_X14, tyX14_ok, nmX14, by decide, rfl, nd_24, Or.inr (Or.inr ⟨q4578, rfl, rfl, rfl⟩), rfl, by decide +kernel⟩
theorem pf_Md_init_185_24 : PF m_Md_init "LibraryDeskModel" "LibraryDeskModel" "LibraryDesk" 185 2 228 (.array .int) 24 := ⟨RX14, TX14, 131, 87, tyX14, by decide, clr_24, in_X14, tyX14_ok, nmX14, by decide, rfl, nd_24, Or.inr (Or.inr ⟨q4579, rfl, rfl, rfl⟩), rfl, by decide +kernel⟩
theorem pf_Md_init_188_24 : PF m_Md_init "LibraryDeskModel" "LibraryDeskModel" "LibraryDesk" 188 2 229 (.array .int) 24 := ⟨RX14, TX14, 131, 88, tyX14, by decide, clr_24, in_X14, tyX14_ok, nmX14, by decide, rfl, nd_24, Or.inr (Or.inr ⟨q4580, rfl, rfl, rfl⟩), rfl, by decide +kernel⟩
theorem pf_Md_init_191_24 : PF m_Md_init "LibraryDeskModel" "LibraryDeskModel" "LibraryDesk" 191 2 230 (.array .boolean) 24 := ⟨RX14, TX14, 131, 89, tyX14, by decide, clr_24, in_X14, tyX14_ok, nmX14, by decide, rfl, nd_24, Or.inr (Or.inr ⟨q4581, rfl, rfl, rfl⟩), rfl, by decide +kernel⟩
theorem pf_Md_init_194_24 : PF m_Md_init "LibraryDeskModel" "LibraryDeskModel" "LibraryDesk" 194 2 231 (.array (.array .int)) 24 := ⟨RX14, TX14, 131, 90, tyX14, by decide, clr_24, in_X14, tyX14_ok, nmX14, by decide, rfl, nd_24, Or.inr (Or.inr ⟨q4582, rfl, rfl, rfl⟩), rfl, by decide +kernel⟩
theorem pf_Md_init_197_24 : PF m_Md_init "LibraryDeskModel" "LibraryDeskModel" "LibraryDesk" 197 2 248 (.array .int) 24 := ⟨RX14, TX14, 131, 107, tyX14, by decide, clr_24, in_X14, tyX14_ok, nmX14, by decide, rfl, nd_24, Or.inr (Or.inr ⟨q4599, rfl, rfl, rfl⟩), rfl, by decide +kernel⟩
theorem pf_Md_init_200_24 : PF m_Md_init "LibraryDeskModel" "LibraryDeskModel" "LibraryDesk" 200 2 249 (.array (.array .int)) 24 := ⟨RX14, TX14, 131, 108, tyX14, by decide, clr_24, in_X14, tyX14_ok, nmX14, by decide, rfl, nd_24, Or.inr (Or.inr ⟨q4600, rfl, rfl, rfl⟩), rfl, by decide +kernel⟩
theorem pf_Md_init_203_24 : PF m_Md_init "LibraryDeskModel" "LibraryDeskModel" "LibraryDesk" 203 2 250 (.array .int) 24 := ⟨RX14, TX14, 131, 109, tyX14, by decide, clr_24, in_X14, tyX14_ok, nmX14, by decide, rfl, nd_24, Or.inr (Or.inr ⟨q4601, rfl, rfl, rfl⟩), rfl, by decide +kernel⟩
theorem pf_Md_init_206_24 : PF m_Md_init "LibraryDeskModel" "LibraryDeskModel" "LibraryDesk" 206 2 251 (.array .int) 24 := ⟨RX14, TX14, 131, 110, tyX14, by decide, clr_24, in_X14, tyX14_ok, nmX14, by decide, rfl, nd_24, Or.inr (Or.inr ⟨q4602, rfl, rfl, rfl⟩), rfl, by decide +kernel⟩
theorem pf_Md_init_209_24 : PF m_Md_init "LibraryDeskModel" "LibraryDeskModel" "LibraryDesk" 209 2 252 (.array .int) 24 := ⟨RX14, TX14, 131, 111, tyX14, by decide, clr_24, in_X14, tyX14_ok, nmX14, by decide, rfl, nd_24, Or.inr (Or.inr ⟨q4603, rfl, rfl, rfl⟩), rfl, by decide +kernel⟩
theorem pf_Md_init_212_24 : PF m_Md_init "LibraryDeskModel" "LibraryDeskModel" "LibraryDesk" 212 2 253 (.array .int) 24 := ⟨RX14, TX14, 131, 112, tyX14, by decide, clr_24, in_X14, tyX14_ok, nmX14, by decide, rfl, nd_24, Or.inr (Or.inr ⟨q4604, rfl, rfl, rfl⟩), rfl, by decide +kernel⟩
theorem pf_Md_init_215_24 : PF m_Md_init "LibraryDeskModel" "LibraryDeskModel" "LibraryDesk" 215 2 254 (.array .int) 24 := ⟨RX14, TX14, 131, 113, tyX14, by decide, clr_24, in_X14, tyX14_ok, nmX14, by decide, rfl, nd_24, Or.inr (Or.inr ⟨q4605, rfl, rfl, rfl⟩), rfl, by decide +kernel⟩
theorem pf_Md_init_218_24 : PF m_Md_init "LibraryDeskModel" "LibraryDeskModel" "LibraryDesk" 218 2 255 (.array .int) 24 := ⟨RX14, TX14, 131, 114, tyX14, by decide, clr_24, in_X14, tyX14_ok, nmX14, by decide, rfl, nd_24, Or.inr (Or.inr ⟨q4606, rfl, rfl, rfl⟩), rfl, by decide +kernel⟩
theorem pf_Md_init_221_24 : PF m_Md_init "LibraryDeskModel" "LibraryDeskModel" "LibraryDesk" 221 2 256 (.array .int) 24 := ⟨RX14, TX14, 131, 115, tyX14, by decide, clr_24, in_X14, tyX14_ok, nmX14, by decide, rfl, nd_24, Or.inr (Or.inr ⟨q4607, rfl, rfl, rfl⟩), rfl, by decide +kernel⟩
theorem pf_Md_init_224_24 : PF m_Md_init "LibraryDeskModel" "LibraryDeskModel" "LibraryDesk" 224 2 257 (.array .int) 24 := ⟨RX14, TX14, 131, 116, tyX14, by decide, clr_24, in_X14, tyX14_ok, nmX14, by decide, rfl, nd_24, Or.inr (Or.inr ⟨q4608, rfl, rfl, rfl⟩), rfl, by decide +kernel⟩
theorem pf_Md_init_227_24 : PF m_Md_init "LibraryDeskModel" "LibraryDeskModel" "LibraryDesk" 227 2 258 (.array .boolean) 24 := ⟨RX14, TX14, 131, 117, tyX14, by decide, clr_24, in_X14, tyX14_ok, nmX14, by decide, rfl, nd_24, Or.inr (Or.inr ⟨q4609, rfl, rfl, rfl⟩), rfl, by decide +kernel⟩
theorem pf_Md_init_230_24 : PF m_Md_init "LibraryDeskModel" "LibraryDeskModel" "LibraryDesk" 230 2 259 (.array .boolean) 24 := ⟨RX14, TX14, 131, 118, tyX14, by decide, clr_24, in_X14, tyX14_ok, nmX14, by decide, rfl, nd_24, Or.inr (Or.inr ⟨q4610, rfl, rfl, rfl⟩), rfl, by decide +kernel⟩
theorem pf_Md_init_233_24 : PF m_Md_init "LibraryDeskModel" "LibraryDeskModel" "LibraryDesk" 233 2 260 (.array .boolean) 24 := ⟨RX14, TX14, 131, 119, tyX14, by decide, clr_24, in_X14, tyX14_ok, nmX14, by decide, rfl, nd_24, Or.inr (Or.inr ⟨q4611, rfl, rfl, rfl⟩), rfl, by decide +kernel⟩
theorem pf_Md_init_236_24 : PF m_Md_init "LibraryDeskModel" "LibraryDeskModel" "LibraryDesk" 236 2 261 (.array .long) 24 := ⟨RX14, TX14, 131, 120, tyX14, by decide, clr_24, in_X14, tyX14_ok, nmX14, by decide, rfl, nd_24, Or.inr (Or.inr ⟨q4612, rfl, rfl, rfl⟩), rfl, by decide +kernel⟩
theorem pf_Md_init_239_24 : PF m_Md_init "LibraryDeskModel" "LibraryDeskModel" "LibraryDesk" 239 2 263 (.array .int) 24 := ⟨RX14, TX14, 131, 122, tyX14, by decide, clr_24, in_X14, tyX14_ok, nmX14, by decide, rfl, nd_24, Or.inr (Or.inr ⟨q4614, rfl, rfl, rfl⟩), rfl, by decide +kernel⟩
theorem pf_Md_init_242_24 : PF m_Md_init "LibraryDeskModel" "LibraryDeskModel" "LibraryDesk" 242 2 264 (.array .int) 24 := ⟨RX14, TX14, 131, 123, tyX14, by decide, clr_24, in_X14, tyX14_ok, nmX14, by decide, rfl, nd_24, Or.inr (Or.inr ⟨q4615, rfl, rfl, rfl⟩), rfl, by decide +kernel⟩
theorem pf_Md_init_246_24 : PF m_Md_init "LibraryDeskModel" "LibraryDeskModel" "LibraryDesk" 246 2 265 (.array (.array .int)) 24 := ⟨RX14, TX14, 131, 124, tyX14, by decide, clr_24, in_X14, tyX14_ok, nmX14, by decide, rfl, nd_24, Or.inr (Or.inr ⟨q4616, rfl, rfl, rfl⟩), rfl, by decide +kernel⟩
theorem pf_Md_init_249_24 : PF m_Md_init "LibraryDeskModel" "LibraryDeskModel" "LibraryDesk" 249 2 266 (.array (.array .int)) 24 := ⟨RX14, TX14, 131, 125, tyX14, by decide, clr_24, in_X14, tyX14_ok, nmX14, by decide, rfl, nd_24, Or.inr (Or.inr ⟨q4617, rfl, rfl, rfl⟩), rfl, by decide +kernel⟩
theorem pf_Md_init_252_24 : PF m_Md_init "LibraryDeskModel" "LibraryDeskModel" "LibraryDesk" 252 2 267 (.array .int) 24 := ⟨RX14, TX14, 131, 126, tyX14, by decide, clr_24, in_X14, tyX14_ok, nmX14, by decide, rfl, nd_24, Or.inr (Or.inr ⟨q4618, rfl, rfl, rfl⟩), rfl, by decide +kernel⟩
theorem gf_Md_25_24 : GF "LibraryDeskModel" "LibraryDeskModel" "LibraryDesk" 25 2 149 24 := ⟨RX14, TX14, 131, 8, by decide, clr_24, in_X14, by decide, rfl, Or.inl q4501, rfl⟩
theorem gf_Md_200_24 : GF "LibraryDeskModel" "LibraryDeskModel" "LibraryDesk" 200 2 249 24 := ⟨RX14, TX14, 131, 108, by decide, clr_24, in_X14, by decide, rfl, Or.inl q4600, rfl⟩
theorem gf_Md_152_24 : GF "LibraryDeskModel" "LibraryDeskModel" "LibraryDesk" 152 2 214 24 := ⟨RX14, TX14, 131, 73, by decide, clr_24, in_X14, by decide, rfl, Or.inl q4566, rfl⟩
theorem gf_Md_255_24 : GF "LibraryDeskModel" "LibraryDeskModel" "LibraryDesk" 255 0 141 24 := ⟨RX14, TX14, 131, 0, by decide, clr_24, in_X14, by decide, rfl, Or.inl q4493, rfl⟩
theorem gf_Md_258_24 : GF "LibraryDeskModel" "LibraryDeskModel" "LibraryDesk" 258 0 143 24 := ⟨RX14, TX14, 131, 2, by decide, clr_24, in_X14, by decide, rfl, Or.inl q4495, rfl⟩
theorem hdd_Md_refuse_ : yX14_refuse.cls ≠ "java/lang/invoke/MethodHandle" ∧ yX14_refuse.cls ≠ "java/lang/invoke/VarHandle" ∧ (parseMethodDescriptor yX14_refuse.desc).map (fun d => d.parameters.length) = some 1 := by decide +kernel
theorem mok_Md_refuse : MOK m_Md_refuse := ⟨by decide +kernel, by decide, cd_Md_refuse, pg_Md_refuse⟩
theorem pf_Md_255_24 {m : Nat} : PF m "LibraryDeskModel" "LibraryDeskModel" "LibraryDesk" 255 0 141 .int 24 := ⟨RX14, TX14, 131, 0, tyX14, by decide, clr_24, in_X14, tyX14_ok, nmX14, by decide, rfl, nd_24, Or.inl ⟨q4493, rfl⟩, rfl, by decide +kernel⟩
theorem hdd_Md_four_ : yX14_four.cls ≠ "java/lang/invoke/MethodHandle" ∧ yX14_four.cls ≠ "java/lang/invoke/VarHandle" ∧ (parseMethodDescriptor yX14_four.desc).map (fun d => d.parameters.length) = some 1 := by decide +kernel
theorem mok_Md_four : MOK m_Md_four := ⟨by decide +kernel, by decide, cd_Md_four, pg_Md_four⟩
theorem gf_Md_11_24 : GF "LibraryDeskModel" "LibraryDeskModel" "LibraryDesk" 11 2 142 24 := ⟨RX14, TX14, 131, 1, by decide, clr_24, in_X14, by decide, rfl, Or.inl q4494, rfl⟩
theorem pf_Md_258_24 {m : Nat} : PF m "LibraryDeskModel" "LibraryDeskModel" "LibraryDesk" 258 0 143 .int 24 := ⟨RX14, TX14, 131, 2, tyX14, by decide, clr_24, in_X14, tyX14_ok, nmX14, by decide, rfl, nd_24, Or.inl ⟨q4495, rfl⟩, rfl, by decide +kernel⟩
theorem hdd_Md_in_ : yX14_in.cls ≠ "java/lang/invoke/MethodHandle" ∧ yX14_in.cls ≠ "java/lang/invoke/VarHandle" ∧ (parseMethodDescriptor yX14_in.desc).map (fun d => d.parameters.length) = some 3 := by decide +kernel
theorem mok_Md_in : MOK m_Md_in := ⟨by decide +kernel, by decide, cd_Md_in, pg_Md_in⟩
theorem hdd_Md_free_ : yX14_free.cls ≠ "java/lang/invoke/MethodHandle" ∧ yX14_free.cls ≠ "java/lang/invoke/VarHandle" ∧ (parseMethodDescriptor yX14_free.desc).map (fun d => d.parameters.length) = some 0 := by decide +kernel
theorem mok_Md_free : MOK m_Md_free := ⟨by decide +kernel, by decide, cd_Md_free, pg_Md_free⟩
theorem hdd_Md_born_ : yX14_born.cls ≠ "java/lang/invoke/MethodHandle" ∧ yX14_born.cls ≠ "java/lang/invoke/VarHandle" ∧ (parseMethodDescriptor yX14_born.desc).map (fun d => d.parameters.length) = some 2 := by decide +kernel
theorem mok_Md_born : MOK m_Md_born := ⟨by decide +kernel, by decide, cd_Md_born, pg_Md_born⟩
theorem gf_Md_36_24 : GF "LibraryDeskModel" "LibraryDeskModel" "LibraryDesk" 36 2 152 24 := ⟨RX14, TX14, 131, 11, by decide, clr_24, in_X14, by decide, rfl, Or.inl q4504, rfl⟩
theorem gf_Md_39_24 : GF "LibraryDeskModel" "LibraryDeskModel" "LibraryDesk" 39 2 153 24 := ⟨RX14, TX14, 131, 12, by decide, clr_24, in_X14, by decide, rfl, Or.inl q4505, rfl⟩
theorem gf_Md_29_24 : GF "LibraryDeskModel" "LibraryDeskModel" "LibraryDesk" 29 2 150 24 := ⟨RX14, TX14, 131, 9, by decide, clr_24, in_X14, by decide, rfl, Or.inl q4502, rfl⟩
theorem gf_Md_60_24 : GF "LibraryDeskModel" "LibraryDeskModel" "LibraryDesk" 60 2 160 24 := ⟨RX14, TX14, 131, 19, by decide, clr_24, in_X14, by decide, rfl, Or.inl q4512, rfl⟩
theorem gf_Md_42_24 : GF "LibraryDeskModel" "LibraryDeskModel" "LibraryDesk" 42 2 154 24 := ⟨RX14, TX14, 131, 13, by decide, clr_24, in_X14, by decide, rfl, Or.inl q4506, rfl⟩
theorem gf_Md_33_24 : GF "LibraryDeskModel" "LibraryDeskModel" "LibraryDesk" 33 2 151 24 := ⟨RX14, TX14, 131, 10, by decide, clr_24, in_X14, by decide, rfl, Or.inl q4503, rfl⟩
theorem gf_Md_45_24 : GF "LibraryDeskModel" "LibraryDeskModel" "LibraryDesk" 45 2 155 24 := ⟨RX14, TX14, 131, 14, by decide, clr_24, in_X14, by decide, rfl, Or.inl q4507, rfl⟩
theorem gf_Md_48_24 : GF "LibraryDeskModel" "LibraryDeskModel" "LibraryDesk" 48 2 156 24 := ⟨RX14, TX14, 131, 15, by decide, clr_24, in_X14, by decide, rfl, Or.inl q4508, rfl⟩
theorem gf_Md_239_24 : GF "LibraryDeskModel" "LibraryDeskModel" "LibraryDesk" 239 2 263 24 := ⟨RX14, TX14, 131, 122, by decide, clr_24, in_X14, by decide, rfl, Or.inl q4614, rfl⟩
theorem gf_Md_242_24 : GF "LibraryDeskModel" "LibraryDeskModel" "LibraryDesk" 242 2 264 24 := ⟨RX14, TX14, 131, 123, by decide, clr_24, in_X14, by decide, rfl, Or.inl q4615, rfl⟩
theorem hdd_Md_isThere_ : yX14_isThere.cls ≠ "java/lang/invoke/MethodHandle" ∧ yX14_isThere.cls ≠ "java/lang/invoke/VarHandle" ∧ (parseMethodDescriptor yX14_isThere.desc).map (fun d => d.parameters.length) = some 1 := by decide +kernel
theorem mok_Md_isThere : MOK m_Md_isThere := ⟨by decide +kernel, by decide, cd_Md_isThere, pg_Md_isThere⟩
theorem gf_Md_66_24 : GF "LibraryDeskModel" "LibraryDeskModel" "LibraryDesk" 66 2 162 24 := ⟨RX14, TX14, 131, 21, by decide, clr_24, in_X14, by decide, rfl, Or.inl q4514, rfl⟩
theorem hdd_Md_hangsOn_ : yX14_hangsOn.cls ≠ "java/lang/invoke/MethodHandle" ∧ yX14_hangsOn.cls ≠ "java/lang/invoke/VarHandle" ∧ (parseMethodDescriptor yX14_hangsOn.desc).map (fun d => d.parameters.length) = some 2 := by decide +kernel
theorem mok_Md_hangsOn : MOK m_Md_hangsOn := ⟨by decide +kernel, by decide, cd_Md_hangsOn, pg_Md_hangsOn⟩
theorem hdd_Md_isList_ : yX14_isList.cls ≠ "java/lang/invoke/MethodHandle" ∧ yX14_isList.cls ≠ "java/lang/invoke/VarHandle" ∧ (parseMethodDescriptor yX14_isList.desc).map (fun d => d.parameters.length) = some 1 := by decide +kernel
theorem mok_Md_isList : MOK m_Md_isList := ⟨by decide +kernel, by decide, cd_Md_isList, pg_Md_isList⟩
theorem hdd_Md_isStale_ : yX14_isStale.cls ≠ "java/lang/invoke/MethodHandle" ∧ yX14_isStale.cls ≠ "java/lang/invoke/VarHandle" ∧ (parseMethodDescriptor yX14_isStale.desc).map (fun d => d.parameters.length) = some 1 := by decide +kernel
theorem mok_Md_isStale : MOK m_Md_isStale := ⟨by decide +kernel, by decide, cd_Md_isStale, pg_Md_isStale⟩
theorem hdd_Md_isFull_ : yX14_isFull.cls ≠ "java/lang/invoke/MethodHandle" ∧ yX14_isFull.cls ≠ "java/lang/invoke/VarHandle" ∧ (parseMethodDescriptor yX14_isFull.desc).map (fun d => d.parameters.length) = some 2 := by decide +kernel
theorem mok_Md_isFull : MOK m_Md_isFull := ⟨by decide +kernel, by decide, cd_Md_isFull, pg_Md_isFull⟩
theorem hdd_Md_room_ : yX14_room.cls ≠ "java/lang/invoke/MethodHandle" ∧ yX14_room.cls ≠ "java/lang/invoke/VarHandle" ∧ (parseMethodDescriptor yX14_room.desc).map (fun d => d.parameters.length) = some 3 := by decide +kernel
theorem mok_Md_room : MOK m_Md_room := ⟨by decide +kernel, by decide, cd_Md_room, pg_Md_room⟩
theorem hdd_Md_put_ : yX14_put.cls ≠ "java/lang/invoke/MethodHandle" ∧ yX14_put.cls ≠ "java/lang/invoke/VarHandle" ∧ (parseMethodDescriptor yX14_put.desc).map (fun d => d.parameters.length) = some 3 := by decide +kernel
theorem mok_Md_put : MOK m_Md_put := ⟨by decide +kernel, by decide, cd_Md_put, pg_Md_put⟩
theorem hdd_Md_get_ : yX14_get.cls ≠ "java/lang/invoke/MethodHandle" ∧ yX14_get.cls ≠ "java/lang/invoke/VarHandle" ∧ (parseMethodDescriptor yX14_get.desc).map (fun d => d.parameters.length) = some 2 := by decide +kernel
theorem mok_Md_get : MOK m_Md_get := ⟨by decide +kernel, by decide, cd_Md_get, pg_Md_get⟩
theorem hdd_Md_find_ : yX14_find.cls ≠ "java/lang/invoke/MethodHandle" ∧ yX14_find.cls ≠ "java/lang/invoke/VarHandle" ∧ (parseMethodDescriptor yX14_find.desc).map (fun d => d.parameters.length) = some 2 := by decide +kernel
theorem mok_Md_find : MOK m_Md_find := ⟨by decide +kernel, by decide, cd_Md_find, pg_Md_find⟩
theorem hdd_Md_all_ : yX14_all.cls ≠ "java/lang/invoke/MethodHandle" ∧ yX14_all.cls ≠ "java/lang/invoke/VarHandle" ∧ (parseMethodDescriptor yX14_all.desc).map (fun d => d.parameters.length) = some 3 := by decide +kernel
theorem mok_Md_all : MOK m_Md_all := ⟨by decide +kernel, by decide, cd_Md_all, pg_Md_all⟩
theorem hdd_Md_without_ : yX14_without.cls ≠ "java/lang/invoke/MethodHandle" ∧ yX14_without.cls ≠ "java/lang/invoke/VarHandle" ∧ (parseMethodDescriptor yX14_without.desc).map (fun d => d.parameters.length) = some 3 := by decide +kernel
theorem mok_Md_without : MOK m_Md_without := ⟨by decide +kernel, by decide, cd_Md_without, pg_Md_without⟩
theorem hdd_Md_sort_ : yX14_sort.cls ≠ "java/lang/invoke/MethodHandle" ∧ yX14_sort.cls ≠ "java/lang/invoke/VarHandle" ∧ (parseMethodDescriptor yX14_sort.desc).map (fun d => d.parameters.length) = some 2 := by decide +kernel
theorem mok_Md_sort : MOK m_Md_sort := ⟨by decide +kernel, by decide, cd_Md_sort, pg_Md_sort⟩
theorem hdd_Md_swap_ : yX14_swap.cls ≠ "java/lang/invoke/MethodHandle" ∧ yX14_swap.cls ≠ "java/lang/invoke/VarHandle" ∧ (parseMethodDescriptor yX14_swap.desc).map (fun d => d.parameters.length) = some 3 := by decide +kernel
theorem mok_Md_swap : MOK m_Md_swap := ⟨by decide +kernel, by decide, cd_Md_swap, pg_Md_swap⟩
theorem gf_Md_63_24 : GF "LibraryDeskModel" "LibraryDeskModel" "LibraryDesk" 63 2 161 24 := ⟨RX14, TX14, 131, 20, by decide, clr_24, in_X14, by decide, rfl, Or.inl q4513, rfl⟩
theorem hdd_Math_floorMod_2_ : yJ12_floorMod_2.cls ≠ "java/lang/invoke/MethodHandle" ∧ yJ12_floorMod_2.cls ≠ "java/lang/invoke/VarHandle" ∧ (parseMethodDescriptor yJ12_floorMod_2.desc).map (fun d => d.parameters.length) = some 2 := by decide +kernel
theorem mok_Math_floorMod_2 : MOK m_Math_floorMod_2 := ⟨by decide +kernel, by decide, cd_Math_floorMod_2, pg_Math_floorMod_2⟩
theorem pf_Md_322_24 {m : Nat} : PF m "LibraryDeskModel" "LibraryDeskModel" "LibraryDesk" 322 0 163 .int 24 := ⟨RX14, TX14, 131, 22, tyX14, by decide, clr_24, in_X14, tyX14_ok, nmX14, by decide, rfl, nd_24, Or.inl ⟨q4515, rfl⟩, rfl, by decide +kernel⟩
theorem hdd_Md_drawn_ : yX14_drawn.cls ≠ "java/lang/invoke/MethodHandle" ∧ yX14_drawn.cls ≠ "java/lang/invoke/VarHandle" ∧ (parseMethodDescriptor yX14_drawn.desc).map (fun d => d.parameters.length) = some 1 := by decide +kernel
theorem mok_Md_drawn : MOK m_Md_drawn := ⟨by decide +kernel, by decide, cd_Md_drawn, pg_Md_drawn⟩
theorem hdd_Md_asked_ : yX14_asked.cls ≠ "java/lang/invoke/MethodHandle" ∧ yX14_asked.cls ≠ "java/lang/invoke/VarHandle" ∧ (parseMethodDescriptor yX14_asked.desc).map (fun d => d.parameters.length) = some 5 := by decide +kernel
theorem mok_Md_asked : MOK m_Md_asked := ⟨by decide +kernel, by decide, cd_Md_asked, pg_Md_asked⟩
theorem gf_Md_54_24 : GF "LibraryDeskModel" "LibraryDeskModel" "LibraryDesk" 54 2 158 24 := ⟨RX14, TX14, 131, 17, by decide, clr_24, in_X14, by decide, rfl, Or.inl q4510, rfl⟩
theorem hdd_Md_root_ : yX14_root.cls ≠ "java/lang/invoke/MethodHandle" ∧ yX14_root.cls ≠ "java/lang/invoke/VarHandle" ∧ (parseMethodDescriptor yX14_root.desc).map (fun d => d.parameters.length) = some 1 := by decide +kernel
theorem mok_Md_root : MOK m_Md_root := ⟨by decide +kernel, by decide, cd_Md_root, pg_Md_root⟩
theorem hdd_Md_start_ : yX14_start.cls ≠ "java/lang/invoke/MethodHandle" ∧ yX14_start.cls ≠ "java/lang/invoke/VarHandle" ∧ (parseMethodDescriptor yX14_start.desc).map (fun d => d.parameters.length) = some 1 := by decide +kernel
theorem mok_Md_start : MOK m_Md_start := ⟨by decide +kernel, by decide, cd_Md_start, pg_Md_start⟩
theorem hdd_Md_grow_ : yX14_grow.cls ≠ "java/lang/invoke/MethodHandle" ∧ yX14_grow.cls ≠ "java/lang/invoke/VarHandle" ∧ (parseMethodDescriptor yX14_grow.desc).map (fun d => d.parameters.length) = some 2 := by decide +kernel
theorem mok_Md_grow : MOK m_Md_grow := ⟨by decide +kernel, by decide, cd_Md_grow, pg_Md_grow⟩
theorem gf_Md_51_24 : GF "LibraryDeskModel" "LibraryDeskModel" "LibraryDesk" 51 2 157 24 := ⟨RX14, TX14, 131, 16, by decide, clr_24, in_X14, by decide, rfl, Or.inl q4509, rfl⟩
theorem hdd_Math_max_ : yJ12_max.cls ≠ "java/lang/invoke/MethodHandle" ∧ yJ12_max.cls ≠ "java/lang/invoke/VarHandle" ∧ (parseMethodDescriptor yJ12_max.desc).map (fun d => d.parameters.length) = some 2 := by decide +kernel
theorem mok_Math_max : MOK m_Math_max := ⟨by decide +kernel, by decide, cd_Math_max, pg_Math_max⟩
theorem hdd_Md_compare_ : yX14_compare.cls ≠ "java/lang/invoke/MethodHandle" ∧ yX14_compare.cls ≠ "java/lang/invoke/VarHandle" ∧ (parseMethodDescriptor yX14_compare.desc).map (fun d => d.parameters.length) = some 3 := by decide +kernel
theorem mok_Md_compare : MOK m_Md_compare := ⟨by decide +kernel, by decide, cd_Md_compare, pg_Md_compare⟩
theorem hdd_Integer_compare_ : yJ13_compare.cls ≠ "java/lang/invoke/MethodHandle" ∧ yJ13_compare.cls ≠ "java/lang/invoke/VarHandle" ∧ (parseMethodDescriptor yJ13_compare.desc).map (fun d => d.parameters.length) = some 2 := by decide +kernel
theorem mok_Integer_compare : MOK m_Integer_compare := ⟨by decide +kernel, by decide, cd_Integer_compare, pg_Integer_compare⟩
theorem hdd_Math_abs_ : yJ12_abs.cls ≠ "java/lang/invoke/MethodHandle" ∧ yJ12_abs.cls ≠ "java/lang/invoke/VarHandle" ∧ (parseMethodDescriptor yJ12_abs.desc).map (fun d => d.parameters.length) = some 1 := by decide +kernel
theorem mok_Math_abs : MOK m_Math_abs := ⟨by decide +kernel, by decide, cd_Math_abs, pg_Math_abs⟩
theorem hdd_Long_compare_ : yJ14_compare.cls ≠ "java/lang/invoke/MethodHandle" ∧ yJ14_compare.cls ≠ "java/lang/invoke/VarHandle" ∧ (parseMethodDescriptor yJ14_compare.desc).map (fun d => d.parameters.length) = some 2 := by decide +kernel
theorem mok_Long_compare : MOK m_Long_compare := ⟨by decide +kernel, by decide, cd_Long_compare, pg_Long_compare⟩
theorem hdd_Math_floorMod_ : yJ12_floorMod.cls ≠ "java/lang/invoke/MethodHandle" ∧ yJ12_floorMod.cls ≠ "java/lang/invoke/VarHandle" ∧ (parseMethodDescriptor yJ12_floorMod.desc).map (fun d => d.parameters.length) = some 2 := by decide +kernel
theorem mok_Math_floorMod : MOK m_Math_floorMod := ⟨by decide +kernel, by decide, cd_Math_floorMod, pg_Math_floorMod⟩
theorem gf_Md_322_24 : GF "LibraryDeskModel" "LibraryDeskModel" "LibraryDesk" 322 0 163 24 := ⟨RX14, TX14, 131, 22, by decide, clr_24, in_X14, by decide, rfl, Or.inl q4515, rfl⟩
theorem hdd_Md_nextRow_ : yX14_nextRow.cls ≠ "java/lang/invoke/MethodHandle" ∧ yX14_nextRow.cls ≠ "java/lang/invoke/VarHandle" ∧ (parseMethodDescriptor yX14_nextRow.desc).map (fun d => d.parameters.length) = some 2 := by decide +kernel
theorem mok_Md_nextRow : MOK m_Md_nextRow := ⟨by decide +kernel, by decide, cd_Md_nextRow, pg_Md_nextRow⟩
theorem hdd_Md_ringOut_ : yX14_ringOut.cls ≠ "java/lang/invoke/MethodHandle" ∧ yX14_ringOut.cls ≠ "java/lang/invoke/VarHandle" ∧ (parseMethodDescriptor yX14_ringOut.desc).map (fun d => d.parameters.length) = some 2 := by decide +kernel
theorem mok_Md_ringOut : MOK m_Md_ringOut := ⟨by decide +kernel, by decide, cd_Md_ringOut, pg_Md_ringOut⟩
theorem hdd_Md_isMap_ : yX14_isMap.cls ≠ "java/lang/invoke/MethodHandle" ∧ yX14_isMap.cls ≠ "java/lang/invoke/VarHandle" ∧ (parseMethodDescriptor yX14_isMap.desc).map (fun d => d.parameters.length) = some 1 := by decide +kernel
theorem mok_Md_isMap : MOK m_Md_isMap := ⟨by decide +kernel, by decide, cd_Md_isMap, pg_Md_isMap⟩
theorem hdd_Md_at_ : yX14_at.cls ≠ "java/lang/invoke/MethodHandle" ∧ yX14_at.cls ≠ "java/lang/invoke/VarHandle" ∧ (parseMethodDescriptor yX14_at.desc).map (fun d => d.parameters.length) = some 2 := by decide +kernel
theorem mok_Md_at : MOK m_Md_at := ⟨by decide +kernel, by decide, cd_Md_at, pg_Md_at⟩
theorem hdd_Md_put_2_ : yX14_put_2.cls ≠ "java/lang/invoke/MethodHandle" ∧ yX14_put_2.cls ≠ "java/lang/invoke/VarHandle" ∧ (parseMethodDescriptor yX14_put_2.desc).map (fun d => d.parameters.length) = some 6 := by decide +kernel
theorem mok_Md_put_2 : MOK m_Md_put_2 := ⟨by decide +kernel, by decide, cd_Md_put_2, pg_Md_put_2⟩
theorem hdd_Md_touched_ : yX14_touched.cls ≠ "java/lang/invoke/MethodHandle" ∧ yX14_touched.cls ≠ "java/lang/invoke/VarHandle" ∧ (parseMethodDescriptor yX14_touched.desc).map (fun d => d.parameters.length) = some 2 := by decide +kernel
theorem mok_Md_touched : MOK m_Md_touched := ⟨by decide +kernel, by decide, cd_Md_touched, pg_Md_touched⟩
theorem hdd_Md_goes_ : yX14_goes.cls ≠ "java/lang/invoke/MethodHandle" ∧ yX14_goes.cls ≠ "java/lang/invoke/VarHandle" ∧ (parseMethodDescriptor yX14_goes.desc).map (fun d => d.parameters.length) = some 2 := by decide +kernel
theorem mok_Md_goes : MOK m_Md_goes := ⟨by decide +kernel, by decide, cd_Md_goes, pg_Md_goes⟩
theorem hdd_Md_entries_ : yX14_entries.cls ≠ "java/lang/invoke/MethodHandle" ∧ yX14_entries.cls ≠ "java/lang/invoke/VarHandle" ∧ (parseMethodDescriptor yX14_entries.desc).map (fun d => d.parameters.length) = some 1 := by decide +kernel
theorem mok_Md_entries : MOK m_Md_entries := ⟨by decide +kernel, by decide, cd_Md_entries, pg_Md_entries⟩
theorem hdd_Md_cleared_ : yX14_cleared.cls ≠ "java/lang/invoke/MethodHandle" ∧ yX14_cleared.cls ≠ "java/lang/invoke/VarHandle" ∧ (parseMethodDescriptor yX14_cleared.desc).map (fun d => d.parameters.length) = some 1 := by decide +kernel
theorem mok_Md_cleared : MOK m_Md_cleared := ⟨by decide +kernel, by decide, cd_Md_cleared, pg_Md_cleared⟩
theorem hdd_Md_nth_ : yX14_nth.cls ≠ "java/lang/invoke/MethodHandle" ∧ yX14_nth.cls ≠ "java/lang/invoke/VarHandle" ∧ (parseMethodDescriptor yX14_nth.desc).map (fun d => d.parameters.length) = some 2 := by decide +kernel
theorem mok_Md_nth : MOK m_Md_nth := ⟨by decide +kernel, by decide, cd_Md_nth, pg_Md_nth⟩
theorem hdd_Md_nearest_ : yX14_nearest.cls ≠ "java/lang/invoke/MethodHandle" ∧ yX14_nearest.cls ≠ "java/lang/invoke/VarHandle" ∧ (parseMethodDescriptor yX14_nearest.desc).map (fun d => d.parameters.length) = some 3 := by decide +kernel
theorem mok_Md_nearest : MOK m_Md_nearest := ⟨by decide +kernel, by decide, cd_Md_nearest, pg_Md_nearest⟩
theorem hdd_Md_sameMap_ : yX14_sameMap.cls ≠ "java/lang/invoke/MethodHandle" ∧ yX14_sameMap.cls ≠ "java/lang/invoke/VarHandle" ∧ (parseMethodDescriptor yX14_sameMap.desc).map (fun d => d.parameters.length) = some 2 := by decide +kernel
theorem mok_Md_sameMap : MOK m_Md_sameMap := ⟨by decide +kernel, by decide, cd_Md_sameMap, pg_Md_sameMap⟩
theorem hdd_Md_allOf_ : yX14_allOf.cls ≠ "java/lang/invoke/MethodHandle" ∧ yX14_allOf.cls ≠ "java/lang/invoke/VarHandle" ∧ (parseMethodDescriptor yX14_allOf.desc).map (fun d => d.parameters.length) = some 2 := by decide +kernel
theorem mok_Md_allOf : MOK m_Md_allOf := ⟨by decide +kernel, by decide, cd_Md_allOf, pg_Md_allOf⟩
theorem hdd_Md_ordered_ : yX14_ordered.cls ≠ "java/lang/invoke/MethodHandle" ∧ yX14_ordered.cls ≠ "java/lang/invoke/VarHandle" ∧ (parseMethodDescriptor yX14_ordered.desc).map (fun d => d.parameters.length) = some 3 := by decide +kernel
theorem mok_Md_ordered : MOK m_Md_ordered := ⟨by decide +kernel, by decide, cd_Md_ordered, pg_Md_ordered⟩
theorem hdd_Md_isWithin_ : yX14_isWithin.cls ≠ "java/lang/invoke/MethodHandle" ∧ yX14_isWithin.cls ≠ "java/lang/invoke/VarHandle" ∧ (parseMethodDescriptor yX14_isWithin.desc).map (fun d => d.parameters.length) = some 2 := by decide +kernel
theorem mok_Md_isWithin : MOK m_Md_isWithin := ⟨by decide +kernel, by decide, cd_Md_isWithin, pg_Md_isWithin⟩
theorem gf_Md_57_24 : GF "LibraryDeskModel" "LibraryDeskModel" "LibraryDesk" 57 2 159 24 := ⟨RX14, TX14, 131, 18, by decide, clr_24, in_X14, by decide, rfl, Or.inl q4511, rfl⟩
theorem hdd_Md_noRoom_ : yX14_noRoom.cls ≠ "java/lang/invoke/MethodHandle" ∧ yX14_noRoom.cls ≠ "java/lang/invoke/VarHandle" ∧ (parseMethodDescriptor yX14_noRoom.desc).map (fun d => d.parameters.length) = some 2 := by decide +kernel
theorem mok_Md_noRoom : MOK m_Md_noRoom := ⟨by decide +kernel, by decide, cd_Md_noRoom, pg_Md_noRoom⟩
theorem hdd_Md_newKey_ : yX14_newKey.cls ≠ "java/lang/invoke/MethodHandle" ∧ yX14_newKey.cls ≠ "java/lang/invoke/VarHandle" ∧ (parseMethodDescriptor yX14_newKey.desc).map (fun d => d.parameters.length) = some 3 := by decide +kernel
theorem mok_Md_newKey : MOK m_Md_newKey := ⟨by decide +kernel, by decide, cd_Md_newKey, pg_Md_newKey⟩
theorem hdd_Md_isLimited_ : yX14_isLimited.cls ≠ "java/lang/invoke/MethodHandle" ∧ yX14_isLimited.cls ≠ "java/lang/invoke/VarHandle" ∧ (parseMethodDescriptor yX14_isLimited.desc).map (fun d => d.parameters.length) = some 1 := by decide +kernel
theorem mok_Md_isLimited : MOK m_Md_isLimited := ⟨by decide +kernel, by decide, cd_Md_isLimited, pg_Md_isLimited⟩
theorem hdd_Md_comes_ : yX14_comes.cls ≠ "java/lang/invoke/MethodHandle" ∧ yX14_comes.cls ≠ "java/lang/invoke/VarHandle" ∧ (parseMethodDescriptor yX14_comes.desc).map (fun d => d.parameters.length) = some 4 := by decide +kernel
theorem mok_Md_comes : MOK m_Md_comes := ⟨by decide +kernel, by decide, cd_Md_comes, pg_Md_comes⟩
theorem hdd_Md_bin_ : yX14_bin.cls ≠ "java/lang/invoke/MethodHandle" ∧ yX14_bin.cls ≠ "java/lang/invoke/VarHandle" ∧ (parseMethodDescriptor yX14_bin.desc).map (fun d => d.parameters.length) = some 2 := by decide +kernel
theorem mok_Md_bin : MOK m_Md_bin := ⟨by decide +kernel, by decide, cd_Md_bin, pg_Md_bin⟩
theorem hdd_Md_inBin_ : yX14_inBin.cls ≠ "java/lang/invoke/MethodHandle" ∧ yX14_inBin.cls ≠ "java/lang/invoke/VarHandle" ∧ (parseMethodDescriptor yX14_inBin.desc).map (fun d => d.parameters.length) = some 2 := by decide +kernel
theorem mok_Md_inBin : MOK m_Md_inBin := ⟨by decide +kernel, by decide, cd_Md_inBin, pg_Md_inBin⟩
theorem hdd_Md_doubled_ : yX14_doubled.cls ≠ "java/lang/invoke/MethodHandle" ∧ yX14_doubled.cls ≠ "java/lang/invoke/VarHandle" ∧ (parseMethodDescriptor yX14_doubled.desc).map (fun d => d.parameters.length) = some 1 := by decide +kernel
theorem mok_Md_doubled : MOK m_Md_doubled := ⟨by decide +kernel, by decide, cd_Md_doubled, pg_Md_doubled⟩
theorem hdd_Md_mixed_ : yX14_mixed.cls ≠ "java/lang/invoke/MethodHandle" ∧ yX14_mixed.cls ≠ "java/lang/invoke/VarHandle" ∧ (parseMethodDescriptor yX14_mixed.desc).map (fun d => d.parameters.length) = some 2 := by decide +kernel
theorem mok_Md_mixed : MOK m_Md_mixed := ⟨by decide +kernel, by decide, cd_Md_mixed, pg_Md_mixed⟩
theorem gf_Md_70_24 : GF "LibraryDeskModel" "LibraryDeskModel" "LibraryDesk" 70 2 164 24 := ⟨RX14, TX14, 131, 23, by decide, clr_24, in_X14, by decide, rfl, Or.inl q4516, rfl⟩
theorem hdd_Md_isTurned_ : yX14_isTurned.cls ≠ "java/lang/invoke/MethodHandle" ∧ yX14_isTurned.cls ≠ "java/lang/invoke/VarHandle" ∧ (parseMethodDescriptor yX14_isTurned.desc).map (fun d => d.parameters.length) = some 1 := by decide +kernel
theorem mok_Md_isTurned : MOK m_Md_isTurned := ⟨by decide +kernel, by decide, cd_Md_isTurned, pg_Md_isTurned⟩
theorem hdd_Md_heapGrows_ : yX14_heapGrows.cls ≠ "java/lang/invoke/MethodHandle" ∧ yX14_heapGrows.cls ≠ "java/lang/invoke/VarHandle" ∧ (parseMethodDescriptor yX14_heapGrows.desc).map (fun d => d.parameters.length) = some 2 := by decide +kernel
theorem mok_Md_heapGrows : MOK m_Md_heapGrows := ⟨by decide +kernel, by decide, cd_Md_heapGrows, pg_Md_heapGrows⟩
theorem hdd_Md_heapFirst_ : yX14_heapFirst.cls ≠ "java/lang/invoke/MethodHandle" ∧ yX14_heapFirst.cls ≠ "java/lang/invoke/VarHandle" ∧ (parseMethodDescriptor yX14_heapFirst.desc).map (fun d => d.parameters.length) = some 1 := by decide +kernel
theorem mok_Md_heapFirst : MOK m_Md_heapFirst := ⟨by decide +kernel, by decide, cd_Md_heapFirst, pg_Md_heapFirst⟩
theorem hdd_Md_bitsOf_ : yX14_bitsOf.cls ≠ "java/lang/invoke/MethodHandle" ∧ yX14_bitsOf.cls ≠ "java/lang/invoke/VarHandle" ∧ (parseMethodDescriptor yX14_bitsOf.desc).map (fun d => d.parameters.length) = some 1 := by decide +kernel
theorem mok_Md_bitsOf : MOK m_Md_bitsOf := ⟨by decide +kernel, by decide, cd_Md_bitsOf, pg_Md_bitsOf⟩
theorem hdd_Md_take_ : yX14_take.cls ≠ "java/lang/invoke/MethodHandle" ∧ yX14_take.cls ≠ "java/lang/invoke/VarHandle" ∧ (parseMethodDescriptor yX14_take.desc).map (fun d => d.parameters.length) = some 0 := by decide +kernel
theorem mok_Md_take : MOK m_Md_take := ⟨by decide +kernel, by decide, cd_Md_take, pg_Md_take⟩
theorem gf_Md_516_24 : GF "LibraryDeskModel" "LibraryDeskModel" "LibraryDesk" 516 0 166 24 := ⟨RX14, TX14, 131, 25, by decide, clr_24, in_X14, by decide, rfl, Or.inl q4518, rfl⟩
theorem hdd_Md_instead_ : yX14_instead.cls ≠ "java/lang/invoke/MethodHandle" ∧ yX14_instead.cls ≠ "java/lang/invoke/VarHandle" ∧ (parseMethodDescriptor yX14_instead.desc).map (fun d => d.parameters.length) = some 3 := by decide +kernel
theorem mok_Md_instead : MOK m_Md_instead := ⟨by decide +kernel, by decide, cd_Md_instead, pg_Md_instead⟩
theorem pf_Md_516_24 {m : Nat} : PF m "LibraryDeskModel" "LibraryDeskModel" "LibraryDesk" 516 0 166 .int 24 := ⟨RX14, TX14, 131, 25, tyX14, by decide, clr_24, in_X14, tyX14_ok, nmX14, by decide, rfl, nd_24, Or.inl ⟨q4518, rfl⟩, rfl, by decide +kernel⟩
theorem hdd_Md_stands_ : yX14_stands.cls ≠ "java/lang/invoke/MethodHandle" ∧ yX14_stands.cls ≠ "java/lang/invoke/VarHandle" ∧ (parseMethodDescriptor yX14_stands.desc).map (fun d => d.parameters.length) = some 2 := by decide +kernel
theorem mok_Md_stands : MOK m_Md_stands := ⟨by decide +kernel, by decide, cd_Md_stands, pg_Md_stands⟩
theorem hdd_Md_isBlank_ : yX14_isBlank.cls ≠ "java/lang/invoke/MethodHandle" ∧ yX14_isBlank.cls ≠ "java/lang/invoke/VarHandle" ∧ (parseMethodDescriptor yX14_isBlank.desc).map (fun d => d.parameters.length) = some 1 := by decide +kernel
theorem mok_Md_isBlank : MOK m_Md_isBlank := ⟨by decide +kernel, by decide, cd_Md_isBlank, pg_Md_isBlank⟩
theorem hdd_Md_outIs_ : yX14_outIs.cls ≠ "java/lang/invoke/MethodHandle" ∧ yX14_outIs.cls ≠ "java/lang/invoke/VarHandle" ∧ (parseMethodDescriptor yX14_outIs.desc).map (fun d => d.parameters.length) = some 2 := by decide +kernel
theorem mok_Md_outIs : MOK m_Md_outIs := ⟨by decide +kernel, by decide, cd_Md_outIs, pg_Md_outIs⟩
theorem hdd_Md_crc_ : yX14_crc.cls ≠ "java/lang/invoke/MethodHandle" ∧ yX14_crc.cls ≠ "java/lang/invoke/VarHandle" ∧ (parseMethodDescriptor yX14_crc.desc).map (fun d => d.parameters.length) = some 2 := by decide +kernel
theorem mok_Md_crc : MOK m_Md_crc := ⟨by decide +kernel, by decide, cd_Md_crc, pg_Md_crc⟩
theorem hdd_Md_base64_ : yX14_base64.cls ≠ "java/lang/invoke/MethodHandle" ∧ yX14_base64.cls ≠ "java/lang/invoke/VarHandle" ∧ (parseMethodDescriptor yX14_base64.desc).map (fun d => d.parameters.length) = some 2 := by decide +kernel
theorem mok_Md_base64 : MOK m_Md_base64 := ⟨by decide +kernel, by decide, cd_Md_base64, pg_Md_base64⟩
theorem hdd_Md_unbase_ : yX14_unbase.cls ≠ "java/lang/invoke/MethodHandle" ∧ yX14_unbase.cls ≠ "java/lang/invoke/VarHandle" ∧ (parseMethodDescriptor yX14_unbase.desc).map (fun d => d.parameters.length) = some 1 := by decide +kernel
theorem mok_Md_unbase : MOK m_Md_unbase := ⟨by decide +kernel, by decide, cd_Md_unbase, pg_Md_unbase⟩
theorem gf_Md_73_24 : GF "LibraryDeskModel" "LibraryDeskModel" "LibraryDesk" 73 2 165 24 := ⟨RX14, TX14, 131, 24, by decide, clr_24, in_X14, by decide, rfl, Or.inl q4517, rfl⟩
theorem gf_Md_15_24 : GF "LibraryDeskModel" "LibraryDeskModel" "LibraryDesk" 15 2 144 24 := ⟨RX14, TX14, 131, 3, by decide, clr_24, in_X14, by decide, rfl, Or.inl q4496, rfl⟩
theorem pf_Md_510_24 {m : Nat} : PF m "LibraryDeskModel" "LibraryDeskModel" "LibraryDesk" 510 0 145 .int 24 := ⟨RX14, TX14, 131, 4, tyX14, by decide, clr_24, in_X14, tyX14_ok, nmX14, by decide, rfl, nd_24, Or.inl ⟨q4497, rfl⟩, rfl, by decide +kernel⟩
theorem pf_Md_513_24 {m : Nat} : PF m "LibraryDeskModel" "LibraryDeskModel" "LibraryDesk" 513 0 147 .int 24 := ⟨RX14, TX14, 131, 6, tyX14, by decide, clr_24, in_X14, tyX14_ok, nmX14, by decide, rfl, nd_24, Or.inl ⟨q4499, rfl⟩, rfl, by decide +kernel⟩
theorem hdd_Md_sixth_ : yX14_sixth.cls ≠ "java/lang/invoke/MethodHandle" ∧ yX14_sixth.cls ≠ "java/lang/invoke/VarHandle" ∧ (parseMethodDescriptor yX14_sixth.desc).map (fun d => d.parameters.length) = some 1 := by decide +kernel
theorem mok_Md_sixth : MOK m_Md_sixth := ⟨by decide +kernel, by decide, cd_Md_sixth, pg_Md_sixth⟩
theorem hdd_Md_say_ : yX14_say.cls ≠ "java/lang/invoke/MethodHandle" ∧ yX14_say.cls ≠ "java/lang/invoke/VarHandle" ∧ (parseMethodDescriptor yX14_say.desc).map (fun d => d.parameters.length) = some 1 := by decide +kernel
theorem mok_Md_say : MOK m_Md_say := ⟨by decide +kernel, by decide, cd_Md_say, pg_Md_say⟩
theorem gf_Md_18_24 : GF "LibraryDeskModel" "LibraryDeskModel" "LibraryDesk" 18 2 146 24 := ⟨RX14, TX14, 131, 5, by decide, clr_24, in_X14, by decide, rfl, Or.inl q4498, rfl⟩
theorem gf_Md_513_24 : GF "LibraryDeskModel" "LibraryDeskModel" "LibraryDesk" 513 0 147 24 := ⟨RX14, TX14, 131, 6, by decide, clr_24, in_X14, by decide, rfl, Or.inl q4499, rfl⟩
theorem gf_Md_510_24 : GF "LibraryDeskModel" "LibraryDeskModel" "LibraryDesk" 510 0 145 24 := ⟨RX14, TX14, 131, 4, by decide, clr_24, in_X14, by decide, rfl, Or.inl q4497, rfl⟩
theorem hdd_Md_brokenAt_ : yX14_brokenAt.cls ≠ "java/lang/invoke/MethodHandle" ∧ yX14_brokenAt.cls ≠ "java/lang/invoke/VarHandle" ∧ (parseMethodDescriptor yX14_brokenAt.desc).map (fun d => d.parameters.length) = some 2 := by decide +kernel
theorem mok_Md_brokenAt : MOK m_Md_brokenAt := ⟨by decide +kernel, by decide, cd_Md_brokenAt, pg_Md_brokenAt⟩
theorem hdd_Md_ofSixth_ : yX14_ofSixth.cls ≠ "java/lang/invoke/MethodHandle" ∧ yX14_ofSixth.cls ≠ "java/lang/invoke/VarHandle" ∧ (parseMethodDescriptor yX14_ofSixth.desc).map (fun d => d.parameters.length) = some 1 := by decide +kernel
theorem mok_Md_ofSixth : MOK m_Md_ofSixth := ⟨by decide +kernel, by decide, cd_Md_ofSixth, pg_Md_ofSixth⟩
theorem ncr_552 : ("java/lang/ArithmeticException", "LibraryDeskModel$Broken") ∈ ncT := List.mem_of_getElem? (i := 552) rfl
theorem xr_LibraryDeskModel_Broken_67 : (inC [49] 67 = true → Cond.castable (exN 67) "LibraryDeskModel$Broken" ∈ nwT) ∧ (¬ inC [49] 67 = true → (exN 67, "LibraryDeskModel$Broken") ∈ ncT) := ⟨fun h => absurd h (by decide), fun _ => ncr_552⟩
theorem ncr_550 : ("java/lang/UnsupportedOperationException", "LibraryDeskModel$Broken") ∈ ncT := List.mem_of_getElem? (i := 550) rfl
theorem xr_LibraryDeskModel_Broken_66 : (inC [49] 66 = true → Cond.castable (exN 66) "LibraryDeskModel$Broken" ∈ nwT) ∧ (¬ inC [49] 66 = true → (exN 66, "LibraryDeskModel$Broken") ∈ ncT) := ⟨fun h => absurd h (by decide), fun _ => ncr_550⟩
theorem ncr_549 : ("java/lang/ClassCastException", "LibraryDeskModel$Broken") ∈ ncT := List.mem_of_getElem? (i := 549) rfl
theorem xr_LibraryDeskModel_Broken_65 : (inC [49] 65 = true → Cond.castable (exN 65) "LibraryDeskModel$Broken" ∈ nwT) ∧ (¬ inC [49] 65 = true → (exN 65, "LibraryDeskModel$Broken") ∈ ncT) := ⟨fun h => absurd h (by decide), fun _ => ncr_549⟩
theorem ncr_548 : ("java/util/NoSuchElementException", "LibraryDeskModel$Broken") ∈ ncT := List.mem_of_getElem? (i := 548) rfl
theorem xr_LibraryDeskModel_Broken_64 : (inC [49] 64 = true → Cond.castable (exN 64) "LibraryDeskModel$Broken" ∈ nwT) ∧ (¬ inC [49] 64 = true → (exN 64, "LibraryDeskModel$Broken") ∈ ncT) := ⟨fun h => absurd h (by decide), fun _ => ncr_548⟩
theorem ncr_529 : ("java/lang/IllegalStateException", "LibraryDeskModel$Broken") ∈ ncT := List.mem_of_getElem? (i := 529) rfl
theorem xr_LibraryDeskModel_Broken_63 : (inC [49] 63 = true → Cond.castable (exN 63) "LibraryDeskModel$Broken" ∈ nwT) ∧ (¬ inC [49] 63 = true → (exN 63, "LibraryDeskModel$Broken") ∈ ncT) := ⟨fun h => absurd h (by decide), fun _ => ncr_529⟩
theorem ncr_528 : ("java/lang/NegativeArraySizeException", "LibraryDeskModel$Broken") ∈ ncT := List.mem_of_getElem? (i := 528) rfl
theorem xr_LibraryDeskModel_Broken_62 : (inC [49] 62 = true → Cond.castable (exN 62) "LibraryDeskModel$Broken" ∈ nwT) ∧ (¬ inC [49] 62 = true → (exN 62, "LibraryDeskModel$Broken") ∈ ncT) := ⟨fun h => absurd h (by decide), fun _ => ncr_528⟩
theorem ncr_527 : ("java/lang/IllegalArgumentException", "LibraryDeskModel$Broken") ∈ ncT := List.mem_of_getElem? (i := 527) rfl
theorem xr_LibraryDeskModel_Broken_61 : (inC [49] 61 = true → Cond.castable (exN 61) "LibraryDeskModel$Broken" ∈ nwT) ∧ (¬ inC [49] 61 = true → (exN 61, "LibraryDeskModel$Broken") ∈ ncT) := ⟨fun h => absurd h (by decide), fun _ => ncr_527⟩
theorem ncr_526 : ("java/lang/IndexOutOfBoundsException", "LibraryDeskModel$Broken") ∈ ncT := List.mem_of_getElem? (i := 526) rfl
theorem xr_LibraryDeskModel_Broken_60 : (inC [49] 60 = true → Cond.castable (exN 60) "LibraryDeskModel$Broken" ∈ nwT) ∧ (¬ inC [49] 60 = true → (exN 60, "LibraryDeskModel$Broken") ∈ ncT) := ⟨fun h => absurd h (by decide), fun _ => ncr_526⟩
theorem ncr_553 : ("LibraryDeskModel$Refused", "LibraryDeskModel$Broken") ∈ ncT := List.mem_of_getElem? (i := 553) rfl
theorem xr_LibraryDeskModel_Broken_50 : (inC [49] 50 = true → Cond.castable (exN 50) "LibraryDeskModel$Broken" ∈ nwT) ∧ (¬ inC [49] 50 = true → (exN 50, "LibraryDeskModel$Broken") ∈ ncT) := ⟨fun h => absurd h (by decide), fun _ => ncr_553⟩
theorem xr_LibraryDeskModel_Broken_49 : (inC [49] 49 = true → Cond.castable (exN 49) "LibraryDeskModel$Broken" ∈ nwT) ∧ (¬ inC [49] 49 = true → (exN 49, "LibraryDeskModel$Broken") ∈ ncT) := ⟨fun _ => nw5285, fun h => absurd (by decide) h⟩
theorem ncr_551 : ("LibraryDesk$Broken", "LibraryDeskModel$Broken") ∈ ncT := List.mem_of_getElem? (i := 551) rfl
theorem xr_LibraryDeskModel_Broken_48 : (inC [49] 48 = true → Cond.castable (exN 48) "LibraryDeskModel$Broken" ∈ nwT) ∧ (¬ inC [49] 48 = true → (exN 48, "LibraryDeskModel$Broken") ∈ ncT) := ⟨fun h => absurd h (by decide), fun _ => ncr_551⟩
theorem gf_Md_107_24 : GF "LibraryDeskModel" "LibraryDeskModel" "LibraryDesk" 107 2 181 24 := ⟨RX14, TX14, 131, 40, by decide, clr_24, in_X14, by decide, rfl, Or.inl q4533, rfl⟩
theorem hdd_Md_readPattern_ : yX14_readPattern.cls ≠ "java/lang/invoke/MethodHandle" ∧ yX14_readPattern.cls ≠ "java/lang/invoke/VarHandle" ∧ (parseMethodDescriptor yX14_readPattern.desc).map (fun d => d.parameters.length) = some 0 := by decide +kernel
theorem mok_Md_readPattern : MOK m_Md_readPattern := ⟨by decide +kernel, by decide, cd_Md_readPattern, pg_Md_readPattern⟩
theorem pf_Md_575_24 {m : Nat} : PF m "LibraryDeskModel" "LibraryDeskModel" "LibraryDesk" 575 0 182 .int 24 := ⟨RX14, TX14, 131, 41, tyX14, by decide, clr_24, in_X14, tyX14_ok, nmX14, by decide, rfl, nd_24, Or.inl ⟨q4534, rfl⟩, rfl, by decide +kernel⟩
theorem hdd_Md_fault_ : yX14_fault.cls ≠ "java/lang/invoke/MethodHandle" ∧ yX14_fault.cls ≠ "java/lang/invoke/VarHandle" ∧ (parseMethodDescriptor yX14_fault.desc).map (fun d => d.parameters.length) = some 1 := by decide +kernel
theorem mok_Md_fault : MOK m_Md_fault := ⟨by decide +kernel, by decide, cd_Md_fault, pg_Md_fault⟩
theorem inB_49 : ∀ w ∈ u_ws RX39 TB49 1, w ∈ lw_all := List.forall_mem_cons.mpr ⟨q5298, fun _ h => absurd h List.not_mem_nil⟩
theorem clr_49 : clT[clI 49]? = some (RX39, TB49, 1) := rfl
theorem gf_Md_658_49 : GF "LibraryDeskModel" "LibraryDeskModel$Broken" "LibraryDesk" 658 0 366 49 := ⟨RX39, TB49, 1, 0, by decide, clr_49, inB_49, by decide, rfl, Or.inl q5297, rfl⟩
theorem gf_Md_97_24 : GF "LibraryDeskModel" "LibraryDeskModel" "LibraryDesk" 97 2 174 24 := ⟨RX14, TX14, 131, 33, by decide, clr_24, in_X14, by decide, rfl, Or.inl q4526, rfl⟩
theorem pf_Md_578_24 {m : Nat} : PF m "LibraryDeskModel" "LibraryDeskModel" "LibraryDesk" 578 0 178 .int 24 := ⟨RX14, TX14, 131, 37, tyX14, by decide, clr_24, in_X14, tyX14_ok, nmX14, by decide, rfl, nd_24, Or.inl ⟨q4530, rfl⟩, rfl, by decide +kernel⟩
theorem pf_Md_585_24 {m : Nat} : PF m "LibraryDeskModel" "LibraryDeskModel" "LibraryDesk" 585 0 179 .int 24 := ⟨RX14, TX14, 131, 38, tyX14, by decide, clr_24, in_X14, tyX14_ok, nmX14, by decide, rfl, nd_24, Or.inl ⟨q4531, rfl⟩, rfl, by decide +kernel⟩
theorem pf_Md_600_24 {m : Nat} : PF m "LibraryDeskModel" "LibraryDeskModel" "LibraryDesk" 600 0 176 .int 24 := ⟨RX14, TX14, 131, 35, tyX14, by decide, clr_24, in_X14, tyX14_ok, nmX14, by decide, rfl, nd_24, Or.inl ⟨q4528, rfl⟩, rfl, by decide +kernel⟩
theorem pf_Md_597_24 {m : Nat} : PF m "LibraryDeskModel" "LibraryDeskModel" "LibraryDesk" 597 0 180 .int 24 := ⟨RX14, TX14, 131, 39, tyX14, by decide, clr_24, in_X14, tyX14_ok, nmX14, by decide, rfl, nd_24, Or.inl ⟨q4532, rfl⟩, rfl, by decide +kernel⟩
theorem pf_Md_603_24 {m : Nat} : PF m "LibraryDeskModel" "LibraryDeskModel" "LibraryDesk" 603 0 183 .int 24 := ⟨RX14, TX14, 131, 42, tyX14, by decide, clr_24, in_X14, tyX14_ok, nmX14, by decide, rfl, nd_24, Or.inl ⟨q4535, rfl⟩, rfl, by decide +kernel⟩
theorem hdd_Md_alt_ : yX14_alt.cls ≠ "java/lang/invoke/MethodHandle" ∧ yX14_alt.cls ≠ "java/lang/invoke/VarHandle" ∧ (parseMethodDescriptor yX14_alt.desc).map (fun d => d.parameters.length) = some 0 := by decide +kernel
theorem mok_Md_alt : MOK m_Md_alt := ⟨by decide +kernel, by decide, cd_Md_alt, pg_Md_alt⟩
theorem pf_Md_605_24 {m : Nat} : PF m "LibraryDeskModel" "LibraryDeskModel" "LibraryDesk" 605 0 184 .int 24 := ⟨RX14, TX14, 131, 43, tyX14, by decide, clr_24, in_X14, tyX14_ok, nmX14, by decide, rfl, nd_24, Or.inl ⟨q4536, rfl⟩, rfl, by decide +kernel⟩
theorem gf_Md_603_24 : GF "LibraryDeskModel" "LibraryDeskModel" "LibraryDesk" 603 0 183 24 := ⟨RX14, TX14, 131, 42, by decide, clr_24, in_X14, by decide, rfl, Or.inl q4535, rfl⟩
theorem gf_Md_575_24 : GF "LibraryDeskModel" "LibraryDeskModel" "LibraryDesk" 575 0 182 24 := ⟨RX14, TX14, 131, 41, by decide, clr_24, in_X14, by decide, rfl, Or.inl q4534, rfl⟩
theorem hdd_Md_seq_ : yX14_seq.cls ≠ "java/lang/invoke/MethodHandle" ∧ yX14_seq.cls ≠ "java/lang/invoke/VarHandle" ∧ (parseMethodDescriptor yX14_seq.desc).map (fun d => d.parameters.length) = some 0 := by decide +kernel
theorem mok_Md_seq : MOK m_Md_seq := ⟨by decide +kernel, by decide, cd_Md_seq, pg_Md_seq⟩
theorem hdd_Md_signAt_ : yX14_signAt.cls ≠ "java/lang/invoke/MethodHandle" ∧ yX14_signAt.cls ≠ "java/lang/invoke/VarHandle" ∧ (parseMethodDescriptor yX14_signAt.desc).map (fun d => d.parameters.length) = some 1 := by decide +kernel
theorem mok_Md_signAt : MOK m_Md_signAt := ⟨by decide +kernel, by decide, cd_Md_signAt, pg_Md_signAt⟩
theorem gf_Md_100_24 : GF "LibraryDeskModel" "LibraryDeskModel" "LibraryDesk" 100 2 175 24 := ⟨RX14, TX14, 131, 34, by decide, clr_24, in_X14, by decide, rfl, Or.inl q4527, rfl⟩
theorem hdd_Md_newNode_ : yX14_newNode.cls ≠ "java/lang/invoke/MethodHandle" ∧ yX14_newNode.cls ≠ "java/lang/invoke/VarHandle" ∧ (parseMethodDescriptor yX14_newNode.desc).map (fun d => d.parameters.length) = some 3 := by decide +kernel
theorem mok_Md_newNode : MOK m_Md_newNode := ⟨by decide +kernel, by decide, cd_Md_newNode, pg_Md_newNode⟩
theorem hdd_Md_quantified_ : yX14_quantified.cls ≠ "java/lang/invoke/MethodHandle" ∧ yX14_quantified.cls ≠ "java/lang/invoke/VarHandle" ∧ (parseMethodDescriptor yX14_quantified.desc).map (fun d => d.parameters.length) = some 0 := by decide +kernel
theorem mok_Md_quantified : MOK m_Md_quantified := ⟨by decide +kernel, by decide, cd_Md_quantified, pg_Md_quantified⟩
theorem gf_Md_76_24 : GF "LibraryDeskModel" "LibraryDeskModel" "LibraryDesk" 76 2 167 24 := ⟨RX14, TX14, 131, 26, by decide, clr_24, in_X14, by decide, rfl, Or.inl q4519, rfl⟩
theorem gf_Md_578_24 : GF "LibraryDeskModel" "LibraryDeskModel" "LibraryDesk" 578 0 178 24 := ⟨RX14, TX14, 131, 37, by decide, clr_24, in_X14, by decide, rfl, Or.inl q4530, rfl⟩
theorem gf_Md_79_24 : GF "LibraryDeskModel" "LibraryDeskModel" "LibraryDesk" 79 2 168 24 := ⟨RX14, TX14, 131, 27, by decide, clr_24, in_X14, by decide, rfl, Or.inl q4520, rfl⟩
theorem gf_Md_82_24 : GF "LibraryDeskModel" "LibraryDeskModel" "LibraryDesk" 82 2 169 24 := ⟨RX14, TX14, 131, 28, by decide, clr_24, in_X14, by decide, rfl, Or.inl q4521, rfl⟩
theorem gf_Md_85_24 : GF "LibraryDeskModel" "LibraryDeskModel" "LibraryDesk" 85 2 170 24 := ⟨RX14, TX14, 131, 29, by decide, clr_24, in_X14, by decide, rfl, Or.inl q4522, rfl⟩
theorem gf_Md_88_24 : GF "LibraryDeskModel" "LibraryDeskModel" "LibraryDesk" 88 2 171 24 := ⟨RX14, TX14, 131, 30, by decide, clr_24, in_X14, by decide, rfl, Or.inl q4523, rfl⟩
theorem gf_Md_91_24 : GF "LibraryDeskModel" "LibraryDeskModel" "LibraryDesk" 91 2 172 24 := ⟨RX14, TX14, 131, 31, by decide, clr_24, in_X14, by decide, rfl, Or.inl q4524, rfl⟩
theorem hdd_Md_atom_ : yX14_atom.cls ≠ "java/lang/invoke/MethodHandle" ∧ yX14_atom.cls ≠ "java/lang/invoke/VarHandle" ∧ (parseMethodDescriptor yX14_atom.desc).map (fun d => d.parameters.length) = some 0 := by decide +kernel
theorem mok_Md_atom : MOK m_Md_atom := ⟨by decide +kernel, by decide, cd_Md_atom, pg_Md_atom⟩
theorem hdd_Md_number_ : yX14_number.cls ≠ "java/lang/invoke/MethodHandle" ∧ yX14_number.cls ≠ "java/lang/invoke/VarHandle" ∧ (parseMethodDescriptor yX14_number.desc).map (fun d => d.parameters.length) = some 0 := by decide +kernel
theorem mok_Md_number : MOK m_Md_number := ⟨by decide +kernel, by decide, cd_Md_number, pg_Md_number⟩
theorem gf_Md_600_24 : GF "LibraryDeskModel" "LibraryDeskModel" "LibraryDesk" 600 0 176 24 := ⟨RX14, TX14, 131, 35, by decide, clr_24, in_X14, by decide, rfl, Or.inl q4528, rfl⟩
theorem hdd_Math_min_2_ : yJ12_min_2.cls ≠ "java/lang/invoke/MethodHandle" ∧ yJ12_min_2.cls ≠ "java/lang/invoke/VarHandle" ∧ (parseMethodDescriptor yJ12_min_2.desc).map (fun d => d.parameters.length) = some 2 := by decide +kernel
theorem mok_Math_min_2 : MOK m_Math_min_2 := ⟨by decide +kernel, by decide, cd_Math_min_2, pg_Math_min_2⟩
theorem hdd_Md_single_ : yX14_single.cls ≠ "java/lang/invoke/MethodHandle" ∧ yX14_single.cls ≠ "java/lang/invoke/VarHandle" ∧ (parseMethodDescriptor yX14_single.desc).map (fun d => d.parameters.length) = some 2 := by decide +kernel
theorem mok_Md_single : MOK m_Md_single := ⟨by decide +kernel, by decide, cd_Md_single, pg_Md_single⟩
theorem hdd_Md_bracket_ : yX14_bracket.cls ≠ "java/lang/invoke/MethodHandle" ∧ yX14_bracket.cls ≠ "java/lang/invoke/VarHandle" ∧ (parseMethodDescriptor yX14_bracket.desc).map (fun d => d.parameters.length) = some 0 := by decide +kernel
theorem mok_Md_bracket : MOK m_Md_bracket := ⟨by decide +kernel, by decide, cd_Md_bracket, pg_Md_bracket⟩
theorem hdd_Md_newSet_ : yX14_newSet.cls ≠ "java/lang/invoke/MethodHandle" ∧ yX14_newSet.cls ≠ "java/lang/invoke/VarHandle" ∧ (parseMethodDescriptor yX14_newSet.desc).map (fun d => d.parameters.length) = some 0 := by decide +kernel
theorem mok_Md_newSet : MOK m_Md_newSet := ⟨by decide +kernel, by decide, cd_Md_newSet, pg_Md_newSet⟩
theorem gf_Md_94_24 : GF "LibraryDeskModel" "LibraryDeskModel" "LibraryDesk" 94 2 173 24 := ⟨RX14, TX14, 131, 32, by decide, clr_24, in_X14, by decide, rfl, Or.inl q4525, rfl⟩
theorem hdd_Md_include_ : yX14_include.cls ≠ "java/lang/invoke/MethodHandle" ∧ yX14_include.cls ≠ "java/lang/invoke/VarHandle" ∧ (parseMethodDescriptor yX14_include.desc).map (fun d => d.parameters.length) = some 2 := by decide +kernel
theorem mok_Md_include : MOK m_Md_include := ⟨by decide +kernel, by decide, cd_Md_include, pg_Md_include⟩
theorem hdd_Md_escape_ : yX14_escape.cls ≠ "java/lang/invoke/MethodHandle" ∧ yX14_escape.cls ≠ "java/lang/invoke/VarHandle" ∧ (parseMethodDescriptor yX14_escape.desc).map (fun d => d.parameters.length) = some 1 := by decide +kernel
theorem mok_Md_escape : MOK m_Md_escape := ⟨by decide +kernel, by decide, cd_Md_escape, pg_Md_escape⟩
theorem hdd_Md_many_ : yX14_many.cls ≠ "java/lang/invoke/MethodHandle" ∧ yX14_many.cls ≠ "java/lang/invoke/VarHandle" ∧ (parseMethodDescriptor yX14_many.desc).map (fun d => d.parameters.length) = some 1 := by decide +kernel
theorem mok_Md_many : MOK m_Md_many := ⟨by decide +kernel, by decide, cd_Md_many, pg_Md_many⟩
theorem bkf_Md_581_583 : BKF "LibraryDeskModel" RX39 "LibraryDesk" TB49 cX39_init 49 366 581 583 := ⟨by decide, rfl, rfl, q5251, q5284, q562, q5293, q5294, Or.inl q5292, by decide, by decide⟩
theorem supA_49 : ∀ w ∈ supA RX39 1 RX39 "java/lang/RuntimeException" ["java/lang/Exception"], wOK w := List.forall_mem_append.mpr ⟨List.forall_mem_append.mpr ⟨thr_A, List.forall_mem_cons.mpr ⟨fun _ => Or.inl q1261, List.forall_mem_cons.mpr ⟨fun _ => Or.inl q1262, List.forall_mem_cons.mpr ⟨fun _ => Or.inl q1263, List.forall_mem_cons.mpr ⟨fun _ => Or.inl q1264, List.forall_mem_cons.mpr ⟨fun _ => Or.inr ⟨nw1222, rfl⟩, List.forall_mem_cons.mpr ⟨fun _ => Or.inl q1264, List.forall_mem_cons.mpr ⟨fun _ => Or.inl q1265, List.forall_mem_cons.mpr ⟨fun _ => Or.inl q1266, List.forall_mem_cons.mpr ⟨fun _ => Or.inl q1234, List.forall_mem_cons.mpr ⟨fun _ => Or.inr ⟨nw1224, rfl⟩, fun _ h => absurd h List.not_mem_nil⟩⟩⟩⟩⟩⟩⟩⟩⟩⟩⟩, List.forall_mem_cons.mpr ⟨fun _ => Or.inl q5295, List.forall_mem_cons.mpr ⟨fun _ => Or.inl q5284, List.forall_mem_cons.mpr ⟨fun _ => Or.inl q5286, List.forall_mem_cons.mpr ⟨fun _ => Or.inl q1182, List.forall_mem_cons.mpr ⟨fun _ => Or.inl q5287, List.forall_mem_cons.mpr ⟨fun _ => Or.inl q5288, List.forall_mem_cons.mpr ⟨fun _ => Or.inl q5289, List.forall_mem_cons.mpr ⟨fun _ => Or.inl q5290, List.forall_mem_cons.mpr ⟨fun h => absurd h (by decide), List.forall_mem_cons.mpr ⟨fun h => absurd h (by decide), List.forall_mem_cons.mpr ⟨fun _ => Or.inl q1232, List.forall_mem_cons.mpr ⟨fun _ => Or.inl q1231, List.forall_mem_cons.mpr ⟨fun _ => Or.inl q5291, fun _ h => absurd h List.not_mem_nil⟩⟩⟩⟩⟩⟩⟩⟩⟩⟩⟩⟩⟩⟩
theorem bkm_49 {l : Launch} (hl : l.stackTraces = false) : BKM l RX39 TB49 ⟨RX39, "<init>", "(I)V"⟩ cX39_init := met_bk0 (fn := "place") hl (by decide +kernel) dX39_init_0 dX39_init_1 dX39_init_4 dX39_init_5 dX39_init_6 dX39_init_9 supA_49 inB_49 rfl q5296
theorem gf_Md_605_24 : GF "LibraryDeskModel" "LibraryDeskModel" "LibraryDesk" 605 0 184 24 := ⟨RX14, TX14, 131, 43, by decide, clr_24, in_X14, by decide, rfl, Or.inl q4536, rfl⟩
theorem gf_Md_597_24 : GF "LibraryDeskModel" "LibraryDeskModel" "LibraryDesk" 597 0 180 24 := ⟨RX14, TX14, 131, 39, by decide, clr_24, in_X14, by decide, rfl, Or.inl q4532, rfl⟩
theorem gf_Md_103_24 : GF "LibraryDeskModel" "LibraryDeskModel" "LibraryDesk" 103 2 177 24 := ⟨RX14, TX14, 131, 36, by decide, clr_24, in_X14, by decide, rfl, Or.inl q4529, rfl⟩
theorem gf_Md_585_24 : GF "LibraryDeskModel" "LibraryDeskModel" "LibraryDesk" 585 0 179 24 := ⟨RX14, TX14, 131, 38, by decide, clr_24, in_X14, by decide, rfl, Or.inl q4531, rfl⟩
theorem hdd_Md_includeKind_ : yX14_includeKind.cls ≠ "java/lang/invoke/MethodHandle" ∧ yX14_includeKind.cls ≠ "java/lang/invoke/VarHandle" ∧ (parseMethodDescriptor yX14_includeKind.desc).map (fun d => d.parameters.length) = some 2 := by decide +kernel
theorem mok_Md_includeKind : MOK m_Md_includeKind := ⟨by decide +kernel, by decide, cd_Md_includeKind, pg_Md_includeKind⟩
theorem hdd_Md_isKind_ : yX14_isKind.cls ≠ "java/lang/invoke/MethodHandle" ∧ yX14_isKind.cls ≠ "java/lang/invoke/VarHandle" ∧ (parseMethodDescriptor yX14_isKind.desc).map (fun d => d.parameters.length) = some 2 := by decide +kernel
theorem mok_Md_isKind : MOK m_Md_isKind := ⟨by decide +kernel, by decide, cd_Md_isKind, pg_Md_isKind⟩
theorem hdd_Md_isWord_ : yX14_isWord.cls ≠ "java/lang/invoke/MethodHandle" ∧ yX14_isWord.cls ≠ "java/lang/invoke/VarHandle" ∧ (parseMethodDescriptor yX14_isWord.desc).map (fun d => d.parameters.length) = some 1 := by decide +kernel
theorem mok_Md_isWord : MOK m_Md_isWord := ⟨by decide +kernel, by decide, cd_Md_isWord, pg_Md_isWord⟩
theorem hdd_Md_prepare_ : yX14_prepare.cls ≠ "java/lang/invoke/MethodHandle" ∧ yX14_prepare.cls ≠ "java/lang/invoke/VarHandle" ∧ (parseMethodDescriptor yX14_prepare.desc).map (fun d => d.parameters.length) = some 2 := by decide +kernel
theorem mok_Md_prepare : MOK m_Md_prepare := ⟨by decide +kernel, by decide, cd_Md_prepare, pg_Md_prepare⟩
theorem pf_Md_732_24 {m : Nat} : PF m "LibraryDeskModel" "LibraryDeskModel" "LibraryDesk" 732 0 197 .boolean 24 := ⟨RX14, TX14, 131, 56, tyX14, by decide, clr_24, in_X14, tyX14_ok, nmX14, by decide, rfl, nd_24, Or.inl ⟨q4549, rfl⟩, rfl, by decide +kernel⟩
theorem hdd_Md_tryAt_ : yX14_tryAt.cls ≠ "java/lang/invoke/MethodHandle" ∧ yX14_tryAt.cls ≠ "java/lang/invoke/VarHandle" ∧ (parseMethodDescriptor yX14_tryAt.desc).map (fun d => d.parameters.length) = some 1 := by decide +kernel
theorem mok_Md_tryAt : MOK m_Md_tryAt := ⟨by decide +kernel, by decide, cd_Md_tryAt, pg_Md_tryAt⟩
theorem hdd_Md_keepGroups_ : yX14_keepGroups.cls ≠ "java/lang/invoke/MethodHandle" ∧ yX14_keepGroups.cls ≠ "java/lang/invoke/VarHandle" ∧ (parseMethodDescriptor yX14_keepGroups.desc).map (fun d => d.parameters.length) = some 0 := by decide +kernel
theorem mok_Md_keepGroups : MOK m_Md_keepGroups := ⟨by decide +kernel, by decide, cd_Md_keepGroups, pg_Md_keepGroups⟩
theorem pf_Md_659_24 {m : Nat} : PF m "LibraryDeskModel" "LibraryDeskModel" "LibraryDesk" 659 0 189 .int 24 := ⟨RX14, TX14, 131, 48, tyX14, by decide, clr_24, in_X14, tyX14_ok, nmX14, by decide, rfl, nd_24, Or.inl ⟨q4541, rfl⟩, rfl, by decide +kernel⟩
theorem pf_Md_685_24 {m : Nat} : PF m "LibraryDeskModel" "LibraryDeskModel" "LibraryDesk" 685 0 190 .int 24 := ⟨RX14, TX14, 131, 49, tyX14, by decide, clr_24, in_X14, tyX14_ok, nmX14, by decide, rfl, nd_24, Or.inl ⟨q4542, rfl⟩, rfl, by decide +kernel⟩
theorem pf_Md_662_24 {m : Nat} : PF m "LibraryDeskModel" "LibraryDeskModel" "LibraryDesk" 662 0 191 .int 24 := ⟨RX14, TX14, 131, 50, tyX14, by decide, clr_24, in_X14, tyX14_ok, nmX14, by decide, rfl, nd_24, Or.inl ⟨q4543, rfl⟩, rfl, by decide +kernel⟩
theorem pf_Md_668_24 {m : Nat} : PF m "LibraryDeskModel" "LibraryDeskModel" "LibraryDesk" 668 0 202 .int 24 := ⟨RX14, TX14, 131, 61, tyX14, by decide, clr_24, in_X14, tyX14_ok, nmX14, by decide, rfl, nd_24, Or.inl ⟨q4554, rfl⟩, rfl, by decide +kernel⟩
theorem gf_Md_137_24 : GF "LibraryDeskModel" "LibraryDeskModel" "LibraryDesk" 137 2 200 24 := ⟨RX14, TX14, 131, 59, by decide, clr_24, in_X14, by decide, rfl, Or.inl q4552, rfl⟩
theorem pf_Md_665_24 {m : Nat} : PF m "LibraryDeskModel" "LibraryDeskModel" "LibraryDesk" 665 0 201 .int 24 := ⟨RX14, TX14, 131, 60, tyX14, by decide, clr_24, in_X14, tyX14_ok, nmX14, by decide, rfl, nd_24, Or.inl ⟨q4553, rfl⟩, rfl, by decide +kernel⟩
theorem hdd_Md_compile_ : yX14_compile.cls ≠ "java/lang/invoke/MethodHandle" ∧ yX14_compile.cls ≠ "java/lang/invoke/VarHandle" ∧ (parseMethodDescriptor yX14_compile.desc).map (fun d => d.parameters.length) = some 1 := by decide +kernel
