/-! LINKING: fields and calls. Printed by gen_link.py. -/
theorem fp_0 : sd_FP "ConeForms" "<init>" 12 8448 := by
  intro ci h
  have hc : ci = 4 := by rcases am_g_of h with h | h <;> omega
  subst hc
  exact ⟨_, _, _, "ConeForms", "line", "Ljava/lang/StringBuilder;", _, t_4, rfl, i_4, t_4_ok, n_4, by decide, rfl, rfl, Or.inl rfl, Or.inl ⟨g_156, Or.inr ⟨rfl, rfl, rfl⟩⟩, t_4_ok 0 (by decide), Or.inr (Or.inr (Or.inl ⟨rfl, Or.inl ⟨_, rfl⟩⟩))⟩
theorem fo_1 : sd_FO "ConeForms" 12 8448 := by
  intro ci h
  have hc : ci = 4 := by rcases am_g_of h with h | h <;> omega
  subst hc
  exact Or.inl ⟨_, _, _, "ConeForms", "line", "Ljava/lang/StringBuilder;", rfl, i_4, by decide, rfl, rfl, Or.inl rfl, Or.inl g_156⟩
theorem fp_2 : sd_FP "ConeForms" "<init>" 21 8449 := by
  intro ci h
  have hc : ci = 4 := by rcases am_g_of h with h | h <;> omega
  subst hc
  exact ⟨_, _, _, "ConeForms", "scanner", "LConeForms$Scanner;", _, t_4, rfl, i_4, t_4_ok, n_4, by decide, rfl, rfl, Or.inl rfl, Or.inl ⟨g_157, Or.inr ⟨rfl, rfl, rfl⟩⟩, t_4_ok 1 (by decide), Or.inr (Or.inr (Or.inl ⟨rfl, Or.inl ⟨_, rfl⟩⟩))⟩
theorem fp_3 : sd_FP "ConeForms" "<init>" 28 8452 := by
  intro ci h
  have hc : ci = 4 := by rcases am_g_of h with h | h <;> omega
  subst hc
  exact ⟨_, _, _, "ConeForms", "nodes", "Ljava/util/ArrayList;", _, t_4, rfl, i_4, t_4_ok, n_4, by decide, rfl, rfl, Or.inl rfl, Or.inl ⟨g_160, Or.inr ⟨rfl, rfl, rfl⟩⟩, t_4_ok 4 (by decide), Or.inr (Or.inr (Or.inl ⟨rfl, Or.inl ⟨_, rfl⟩⟩))⟩
theorem fp_4 : sd_FP "ConeForms" "<init>" 34 8453 := by
  intro ci h
  have hc : ci = 4 := by rcases am_g_of h with h | h <;> omega
  subst hc
  exact ⟨_, _, _, "ConeForms", "operands", "[LConeForms$Node;", _, t_4, rfl, i_4, t_4_ok, n_4, by decide, rfl, rfl, Or.inl rfl, Or.inl ⟨g_161, Or.inr ⟨rfl, rfl, rfl⟩⟩, t_4_ok 5 (by decide), Or.inr (Or.inr (Or.inl ⟨rfl, Or.inr ⟨_, rfl⟩⟩))⟩
theorem fp_5 : sd_FP "ConeForms" "<init>" 38 8459 := by
  intro ci h
  have hc : ci = 4 := by rcases am_g_of h with h | h <;> omega
  subst hc
  exact ⟨_, _, _, "ConeForms", "columns", "Ljava/util/ArrayList;", _, t_4, rfl, i_4, t_4_ok, n_4, by decide, rfl, rfl, Or.inl rfl, Or.inl ⟨g_167, Or.inr ⟨rfl, rfl, rfl⟩⟩, t_4_ok 11 (by decide), Or.inr (Or.inr (Or.inl ⟨rfl, Or.inl ⟨_, rfl⟩⟩))⟩
theorem fp_6 : sd_FP "ConeForms" "<init>" 46 8460 := by
  intro ci h
  have hc : ci = 4 := by rcases am_g_of h with h | h <;> omega
  subst hc
  exact ⟨_, _, _, "ConeForms", "expansions", "LConeForms$Table;", _, t_4, rfl, i_4, t_4_ok, n_4, by decide, rfl, rfl, Or.inl rfl, Or.inl ⟨g_168, Or.inr ⟨rfl, rfl, rfl⟩⟩, t_4_ok 12 (by decide), Or.inr (Or.inr (Or.inl ⟨rfl, Or.inl ⟨_, rfl⟩⟩))⟩
theorem fp_7 : sd_FP "ConeForms" "<init>" 50 8461 := by
  intro ci h
  have hc : ci = 4 := by rcases am_g_of h with h | h <;> omega
  subst hc
  exact ⟨_, _, _, "ConeForms", "table", "LConeForms$Table;", _, t_4, rfl, i_4, t_4_ok, n_4, by decide, rfl, rfl, Or.inl rfl, Or.inl ⟨g_169, Or.inr ⟨rfl, rfl, rfl⟩⟩, t_4_ok 13 (by decide), Or.inr (Or.inr (Or.inl ⟨rfl, Or.inl ⟨_, rfl⟩⟩))⟩
theorem fp_8 : sd_FP "java/lang/AbstractStringBuilder" "<init>" 15 8192 := by
  intro ci h
  have hc : ci = 0 := by rcases am_g_of h with h | h <;> omega
  subst hc
  exact ⟨_, _, _, "java/lang/AbstractStringBuilder", "value", "[B", _, t_0, rfl, i_0, t_0_ok, n_0, by decide, rfl, rfl, Or.inl rfl, Or.inl ⟨g_54, Or.inl rfl⟩, t_0_ok 0 (by decide), Or.inr (Or.inr (Or.inl ⟨rfl, Or.inr ⟨_, rfl⟩⟩))⟩
theorem fp_9 : sd_FP "java/lang/AbstractStringBuilder" "<init>" 22 12289 := by
  intro ci h
  have hc : ci = 0 := by rcases am_g_of h with h | h <;> omega
  subst hc
  exact ⟨_, _, _, "java/lang/AbstractStringBuilder", "coder", "B", _, t_0, rfl, i_0, t_0_ok, n_0, by decide, rfl, rfl, Or.inl rfl, Or.inl ⟨g_55, Or.inl rfl⟩, t_0_ok 1 (by decide), Or.inr (Or.inr (Or.inr (Or.inl ⟨rfl, rfl⟩)))⟩
theorem fp_10 : sd_FP "ConeForms$Scanner" "<init>" 11 8260 := by
  intro ci h
  have hc : ci = 1 := by rcases am_g_of h with h | h <;> omega
  subst hc
  exact ⟨_, _, _, "ConeForms$Scanner", "kinds", "[LConeForms$Kind;", _, t_1, rfl, i_1, t_1_ok, n_1, by decide, rfl, rfl, Or.inl rfl, Or.inl ⟨g_82, Or.inr ⟨rfl, rfl, rfl⟩⟩, t_1_ok 4 (by decide), Or.inr (Or.inr (Or.inl ⟨rfl, Or.inr ⟨_, rfl⟩⟩))⟩
theorem fp_11 : sd_FP "ConeForms$Scanner" "<init>" 17 8261 := by
  intro ci h
  have hc : ci = 1 := by rcases am_g_of h with h | h <;> omega
  subst hc
  exact ⟨_, _, _, "ConeForms$Scanner", "data", "[I", _, t_1, rfl, i_1, t_1_ok, n_1, by decide, rfl, rfl, Or.inl rfl, Or.inl ⟨g_84, Or.inr ⟨rfl, rfl, rfl⟩⟩, t_1_ok 5 (by decide), Or.inr (Or.inr (Or.inl ⟨rfl, Or.inr ⟨_, rfl⟩⟩))⟩
theorem fp_12 : sd_FP "ConeForms$Scanner" "<init>" 21 8262 := by
  intro ci h
  have hc : ci = 1 := by rcases am_g_of h with h | h <;> omega
  subst hc
  exact ⟨_, _, _, "ConeForms$Scanner", "open", "[C", _, t_1, rfl, i_1, t_1_ok, n_1, by decide, rfl, rfl, Or.inl rfl, Or.inl ⟨g_86, Or.inr ⟨rfl, rfl, rfl⟩⟩, t_1_ok 6 (by decide), Or.inr (Or.inr (Or.inl ⟨rfl, Or.inr ⟨_, rfl⟩⟩))⟩
theorem fp_13 : sd_FP "ConeForms$Scanner" "<init>" 25 8263 := by
  intro ci h
  have hc : ci = 1 := by rcases am_g_of h with h | h <;> omega
  subst hc
  exact ⟨_, _, _, "ConeForms$Scanner", "wants", "[I", _, t_1, rfl, i_1, t_1_ok, n_1, by decide, rfl, rfl, Or.inl rfl, Or.inl ⟨g_87, Or.inr ⟨rfl, rfl, rfl⟩⟩, t_1_ok 7 (by decide), Or.inr (Or.inr (Or.inl ⟨rfl, Or.inr ⟨_, rfl⟩⟩))⟩
theorem fp_14 : sd_FP "ConeForms$Scanner" "<init>" 28 8256 := by
  intro ci h
  have hc : ci = 1 := by rcases am_g_of h with h | h <;> omega
  subst hc
  exact ⟨_, _, _, "ConeForms$Scanner", "text", "Ljava/lang/StringBuilder;", _, t_1, rfl, i_1, t_1_ok, n_1, by decide, rfl, rfl, Or.inl rfl, Or.inl ⟨g_76, Or.inr ⟨rfl, rfl, rfl⟩⟩, t_1_ok 0 (by decide), Or.inr (Or.inr (Or.inl ⟨rfl, Or.inl ⟨_, rfl⟩⟩))⟩
theorem fp_15 : sd_FP "java/util/ArrayList" "<init>" 9 8320 := by
  intro ci h
  have hc : ci = 2 := by rcases am_g_of h with h | h <;> omega
  subst hc
  exact ⟨_, _, _, "java/util/ArrayList", "elementData", "[Ljava/lang/Object;", _, t_2, rfl, i_2, t_2_ok, n_2, by decide, rfl, rfl, Or.inl rfl, Or.inl ⟨g_124, Or.inl rfl⟩, t_2_ok 0 (by decide), Or.inr (Or.inr (Or.inl ⟨rfl, Or.inr ⟨_, rfl⟩⟩))⟩
theorem fp_16 : sd_FP "java/util/AbstractList" "<init>" 7 130 := by
  intro ci h
  have hc : ci = 2 := by rcases am_g_of h with h | h <;> omega
  subst hc
  exact ⟨_, _, _, "java/util/AbstractList", "modCount", "I", _, t_2, rfl, i_2, t_2_ok, n_2, by decide, rfl, rfl, Or.inl rfl, Or.inl ⟨g_128, Or.inl rfl⟩, t_2_ok 2 (by decide), Or.inl ⟨rfl, rfl⟩⟩
theorem fp_17 : sd_FP "ConeForms$Table" "<init>" 9 8384 := by
  intro ci h
  have hc : ci = 3 := by rcases am_g_of h with h | h <;> omega
  subst hc
  exact ⟨_, _, _, "ConeForms$Table", "numbers", "[I", _, t_3, rfl, i_3, t_3_ok, n_3, by decide, rfl, rfl, Or.inl rfl, Or.inl ⟨g_147, Or.inr ⟨rfl, rfl, rfl⟩⟩, t_3_ok 0 (by decide), Or.inr (Or.inr (Or.inl ⟨rfl, Or.inr ⟨_, rfl⟩⟩))⟩
theorem fp_18 : sd_FP "ConeForms$Table" "<init>" 15 8385 := by
  intro ci h
  have hc : ci = 3 := by rcases am_g_of h with h | h <;> omega
  subst hc
  exact ⟨_, _, _, "ConeForms$Table", "constants", "[I", _, t_3, rfl, i_3, t_3_ok, n_3, by decide, rfl, rfl, Or.inl rfl, Or.inl ⟨g_148, Or.inr ⟨rfl, rfl, rfl⟩⟩, t_3_ok 1 (by decide), Or.inr (Or.inr (Or.inl ⟨rfl, Or.inr ⟨_, rfl⟩⟩))⟩
theorem fp_19 : sd_FP "ConeForms" "type" 61 4354 := by
  intro ci h
  have hc : ci = 4 := by rcases am_g_of h with h | h <;> omega
  subst hc
  exact ⟨_, _, _, "ConeForms", "refused", "Z", _, t_4, rfl, i_4, t_4_ok, n_4, by decide, rfl, rfl, Or.inl rfl, Or.inl ⟨g_158, Or.inl rfl⟩, t_4_ok 2 (by decide), Or.inr (Or.inl ⟨rfl, rfl⟩)⟩
theorem fo_20 : sd_FO "java/lang/AbstractStringBuilder" 79 3 := by
  intro ci h
  have hc : ci = 0 := by rcases am_g_of h with h | h <;> omega
  subst hc
  exact Or.inl ⟨_, _, _, "java/lang/AbstractStringBuilder", "count", "I", rfl, i_0, by decide, rfl, rfl, Or.inl rfl, Or.inl g_57⟩
theorem fo_21 : sd_FO "java/lang/AbstractStringBuilder" 15 8192 := by
  intro ci h
  have hc : ci = 0 := by rcases am_g_of h with h | h <;> omega
  subst hc
  exact Or.inl ⟨_, _, _, "java/lang/AbstractStringBuilder", "value", "[B", rfl, i_0, by decide, rfl, rfl, Or.inl rfl, Or.inl g_54⟩
theorem fp_22 : sd_FP "java/lang/AbstractStringBuilder" "append" 79 3 := by
  intro ci h
  have hc : ci = 0 := by rcases am_g_of h with h | h <;> omega
  subst hc
  exact ⟨_, _, _, "java/lang/AbstractStringBuilder", "count", "I", _, t_0, rfl, i_0, t_0_ok, n_0, by decide, rfl, rfl, Or.inl rfl, Or.inl ⟨g_57, Or.inl rfl⟩, t_0_ok 3 (by decide), Or.inl ⟨rfl, rfl⟩⟩
theorem fo_23 : sd_FO "java/lang/AbstractStringBuilder" 22 12289 := by
  intro ci h
  have hc : ci = 0 := by rcases am_g_of h with h | h <;> omega
  subst hc
  exact Or.inl ⟨_, _, _, "java/lang/AbstractStringBuilder", "coder", "B", rfl, i_0, by decide, rfl, rfl, Or.inl rfl, Or.inl g_55⟩
theorem fp_24 : sd_FP "java/lang/AbstractStringBuilder" "ensureCapacityInternal" 15 8192 := by
  intro ci h
  have hc : ci = 0 := by rcases am_g_of h with h | h <;> omega
  subst hc
  exact ⟨_, _, _, "java/lang/AbstractStringBuilder", "value", "[B", _, t_0, rfl, i_0, t_0_ok, n_0, by decide, rfl, rfl, Or.inl rfl, Or.inl ⟨g_54, Or.inl rfl⟩, t_0_ok 0 (by decide), Or.inr (Or.inr (Or.inl ⟨rfl, Or.inr ⟨_, rfl⟩⟩))⟩
theorem fp_25 : sd_FP "ConeForms" "wipe" 61 4354 := by
  intro ci h
  have hc : ci = 4 := by rcases am_g_of h with h | h <;> omega
  subst hc
  exact ⟨_, _, _, "ConeForms", "refused", "Z", _, t_4, rfl, i_4, t_4_ok, n_4, by decide, rfl, rfl, Or.inl rfl, Or.inl ⟨g_158, Or.inl rfl⟩, t_4_ok 2 (by decide), Or.inr (Or.inl ⟨rfl, rfl⟩)⟩
theorem fp_26 : sd_FP "java/lang/AbstractStringBuilder" "setLength" 73 4098 := by
  intro ci h
  have hc : ci = 0 := by rcases am_g_of h with h | h <;> omega
  subst hc
  exact ⟨_, _, _, "java/lang/AbstractStringBuilder", "maybeLatin1", "Z", _, t_0, rfl, i_0, t_0_ok, n_0, by decide, rfl, rfl, Or.inl rfl, Or.inl ⟨g_56, Or.inl rfl⟩, t_0_ok 2 (by decide), Or.inr (Or.inl ⟨rfl, rfl⟩)⟩
theorem fp_27 : sd_FP "java/lang/AbstractStringBuilder" "setLength" 79 3 := by
  intro ci h
  have hc : ci = 0 := by rcases am_g_of h with h | h <;> omega
  subst hc
  exact ⟨_, _, _, "java/lang/AbstractStringBuilder", "count", "I", _, t_0, rfl, i_0, t_0_ok, n_0, by decide, rfl, rfl, Or.inl rfl, Or.inl ⟨g_57, Or.inl rfl⟩, t_0_ok 3 (by decide), Or.inl ⟨rfl, rfl⟩⟩
theorem fo_28 : sd_FO "ConeForms" 61 4354 := by
  intro ci h
  have hc : ci = 4 := by rcases am_g_of h with h | h <;> omega
  subst hc
  exact Or.inl ⟨_, _, _, "ConeForms", "refused", "Z", rfl, i_4, by decide, rfl, rfl, Or.inl rfl, Or.inl g_158⟩
theorem fo_29 : sd_FO "ConeForms" 68 259 := by
  intro ci h
  have hc : ci = 4 := by rcases am_g_of h with h | h <;> omega
  subst hc
  exact Or.inl ⟨_, _, _, "ConeForms", "refusal", "I", rfl, i_4, by decide, rfl, rfl, Or.inl rfl, Or.inl g_159⟩
theorem fo_30 : sd_FO "ConeForms" 28 8452 := by
  intro ci h
  have hc : ci = 4 := by rcases am_g_of h with h | h <;> omega
  subst hc
  exact Or.inl ⟨_, _, _, "ConeForms", "nodes", "Ljava/util/ArrayList;", rfl, i_4, by decide, rfl, rfl, Or.inl rfl, Or.inl g_160⟩
theorem fo_31 : sd_FO "ConeForms" 21 8449 := by
  intro ci h
  have hc : ci = 4 := by rcases am_g_of h with h | h <;> omega
  subst hc
  exact Or.inl ⟨_, _, _, "ConeForms", "scanner", "LConeForms$Scanner;", rfl, i_4, by decide, rfl, rfl, Or.inl rfl, Or.inl g_157⟩
theorem fo_32 : sd_FO "ConeForms" 83 65 := by
  intro ci h
  have hc : ci = 1 := by rcases am_g_of h with h | h <;> omega
  subst hc
  exact Or.inl ⟨_, _, _, "ConeForms$Scanner", "at", "I", rfl, i_1, by decide, rfl, rfl, Or.inl rfl, Or.inr ⟨_, k_n78⟩⟩
theorem fp_33 : sd_FP "ConeForms" "read" 61 4354 := by
  intro ci h
  have hc : ci = 4 := by rcases am_g_of h with h | h <;> omega
  subst hc
  exact ⟨_, _, _, "ConeForms", "refused", "Z", _, t_4, rfl, i_4, t_4_ok, n_4, by decide, rfl, rfl, Or.inl rfl, Or.inl ⟨g_158, Or.inl rfl⟩, t_4_ok 2 (by decide), Or.inr (Or.inl ⟨rfl, rfl⟩)⟩
theorem fp_34 : sd_FP "ConeForms" "read" 68 259 := by
  intro ci h
  have hc : ci = 4 := by rcases am_g_of h with h | h <;> omega
  subst hc
  exact ⟨_, _, _, "ConeForms", "refusal", "I", _, t_4, rfl, i_4, t_4_ok, n_4, by decide, rfl, rfl, Or.inl rfl, Or.inl ⟨g_159, Or.inl rfl⟩, t_4_ok 3 (by decide), Or.inl ⟨rfl, rfl⟩⟩
theorem fo_35 : sd_FO "java/util/ArrayList" 48 129 := by
  intro ci h
  have hc : ci = 2 := by rcases am_g_of h with h | h <;> omega
  subst hc
  exact Or.inl ⟨_, _, _, "java/util/ArrayList", "size", "I", rfl, i_2, by decide, rfl, rfl, Or.inl rfl, Or.inl g_127⟩
theorem fp_36 : sd_FP "ConeForms$Scanner" "scan" 32 65 := by
  intro ci h
  have hc : ci = 1 := by rcases am_g_of h with h | h <;> omega
  subst hc
  exact ⟨_, _, _, "ConeForms$Scanner", "at", "I", _, t_1, rfl, i_1, t_1_ok, n_1, by decide, rfl, rfl, Or.inl rfl, Or.inl ⟨g_77, Or.inl rfl⟩, t_1_ok 1 (by decide), Or.inl ⟨rfl, rfl⟩⟩
theorem fp_37 : sd_FP "ConeForms$Scanner" "scan" 36 4162 := by
  intro ci h
  have hc : ci = 1 := by rcases am_g_of h with h | h <;> omega
  subst hc
  exact ⟨_, _, _, "ConeForms$Scanner", "operand", "Z", _, t_1, rfl, i_1, t_1_ok, n_1, by decide, rfl, rfl, Or.inl rfl, Or.inl ⟨g_79, Or.inl rfl⟩, t_1_ok 2 (by decide), Or.inr (Or.inl ⟨rfl, rfl⟩)⟩
theorem fp_38 : sd_FP "ConeForms$Scanner" "scan" 40 67 := by
  intro ci h
  have hc : ci = 1 := by rcases am_g_of h with h | h <;> omega
  subst hc
  exact ⟨_, _, _, "ConeForms$Scanner", "steps", "I", _, t_1, rfl, i_1, t_1_ok, n_1, by decide, rfl, rfl, Or.inl rfl, Or.inl ⟨g_80, Or.inl rfl⟩, t_1_ok 3 (by decide), Or.inl ⟨rfl, rfl⟩⟩
theorem fp_39 : sd_FP "ConeForms$Scanner" "scan" 43 72 := by
  intro ci h
  have hc : ci = 1 := by rcases am_g_of h with h | h <;> omega
  subst hc
  exact ⟨_, _, _, "ConeForms$Scanner", "top", "I", _, t_1, rfl, i_1, t_1_ok, n_1, by decide, rfl, rfl, Or.inl rfl, Or.inl ⟨g_88, Or.inl rfl⟩, t_1_ok 8 (by decide), Or.inl ⟨rfl, rfl⟩⟩
theorem fo_40 : sd_FO "ConeForms$Scanner" 32 65 := by
  intro ci h
  have hc : ci = 1 := by rcases am_g_of h with h | h <;> omega
  subst hc
  exact Or.inl ⟨_, _, _, "ConeForms$Scanner", "at", "I", rfl, i_1, by decide, rfl, rfl, Or.inl rfl, Or.inl g_77⟩
theorem fo_41 : sd_FO "ConeForms$Scanner" 28 8256 := by
  intro ci h
  have hc : ci = 1 := by rcases am_g_of h with h | h <;> omega
  subst hc
  exact Or.inl ⟨_, _, _, "ConeForms$Scanner", "text", "Ljava/lang/StringBuilder;", rfl, i_1, by decide, rfl, rfl, Or.inl rfl, Or.inl g_76⟩
theorem fo_42 : sd_FO "ConeForms$Scanner" 36 4162 := by
  intro ci h
  have hc : ci = 1 := by rcases am_g_of h with h | h <;> omega
  subst hc
  exact Or.inl ⟨_, _, _, "ConeForms$Scanner", "operand", "Z", rfl, i_1, by decide, rfl, rfl, Or.inl rfl, Or.inl g_79⟩
theorem fo_43 : sd_FO "ConeForms$Scanner" 43 72 := by
  intro ci h
  have hc : ci = 1 := by rcases am_g_of h with h | h <;> omega
  subst hc
  exact Or.inl ⟨_, _, _, "ConeForms$Scanner", "top", "I", rfl, i_1, by decide, rfl, rfl, Or.inl rfl, Or.inl g_88⟩
theorem fp_44 : sd_FP "ConeForms$Scanner" "first" 36 4162 := by
  intro ci h
  have hc : ci = 1 := by rcases am_g_of h with h | h <;> omega
  subst hc
  exact ⟨_, _, _, "ConeForms$Scanner", "operand", "Z", _, t_1, rfl, i_1, t_1_ok, n_1, by decide, rfl, rfl, Or.inl rfl, Or.inl ⟨g_79, Or.inl rfl⟩, t_1_ok 2 (by decide), Or.inr (Or.inl ⟨rfl, rfl⟩)⟩
theorem fp_45 : sd_FP "ConeForms$Scanner" "first" 32 65 := by
  intro ci h
  have hc : ci = 1 := by rcases am_g_of h with h | h <;> omega
  subst hc
  exact ⟨_, _, _, "ConeForms$Scanner", "at", "I", _, t_1, rfl, i_1, t_1_ok, n_1, by decide, rfl, rfl, Or.inl rfl, Or.inl ⟨g_77, Or.inl rfl⟩, t_1_ok 1 (by decide), Or.inl ⟨rfl, rfl⟩⟩
theorem fo_46 : sd_FO "ConeForms$Scanner" 100 768 := by
  intro ci h
  have hc : ci = 12 := by rcases am_g_of h with h | h <;> omega
  subst hc
  exact Or.inr ⟨rfl, ("ConeForms$Kind", "arity", "I", [0, 0, 0, 2, 2, 1, 2, 2, 2, 1, 1, 3]), "ConeForms$Kind", List.mem_of_getElem? (i := 0) rfl, by decide, Or.inl rfl, Or.inr ⟨_, k_n1462⟩⟩
theorem fp_47 : sd_FP "ConeForms$Scanner" "number" 32 65 := by
  intro ci h
  have hc : ci = 1 := by rcases am_g_of h with h | h <;> omega
  subst hc
  exact ⟨_, _, _, "ConeForms$Scanner", "at", "I", _, t_1, rfl, i_1, t_1_ok, n_1, by decide, rfl, rfl, Or.inl rfl, Or.inl ⟨g_77, Or.inl rfl⟩, t_1_ok 1 (by decide), Or.inl ⟨rfl, rfl⟩⟩
theorem fo_48 : sd_FO "ConeForms$Scanner" 11 8260 := by
  intro ci h
  have hc : ci = 1 := by rcases am_g_of h with h | h <;> omega
  subst hc
  exact Or.inl ⟨_, _, _, "ConeForms$Scanner", "kinds", "[LConeForms$Kind;", rfl, i_1, by decide, rfl, rfl, Or.inl rfl, Or.inl g_82⟩
theorem fo_49 : sd_FO "ConeForms$Scanner" 40 67 := by
  intro ci h
  have hc : ci = 1 := by rcases am_g_of h with h | h <;> omega
  subst hc
  exact Or.inl ⟨_, _, _, "ConeForms$Scanner", "steps", "I", rfl, i_1, by decide, rfl, rfl, Or.inl rfl, Or.inl g_80⟩
theorem fo_50 : sd_FO "ConeForms$Scanner" 17 8261 := by
  intro ci h
  have hc : ci = 1 := by rcases am_g_of h with h | h <;> omega
  subst hc
  exact Or.inl ⟨_, _, _, "ConeForms$Scanner", "data", "[I", rfl, i_1, by decide, rfl, rfl, Or.inl rfl, Or.inl g_84⟩
theorem fp_51 : sd_FP "ConeForms$Scanner" "step" 40 67 := by
  intro ci h
  have hc : ci = 1 := by rcases am_g_of h with h | h <;> omega
  subst hc
  exact ⟨_, _, _, "ConeForms$Scanner", "steps", "I", _, t_1, rfl, i_1, t_1_ok, n_1, by decide, rfl, rfl, Or.inl rfl, Or.inl ⟨g_80, Or.inl rfl⟩, t_1_ok 3 (by decide), Or.inl ⟨rfl, rfl⟩⟩
theorem fo_52 : sd_FO "ConeForms$Scanner" 21 8262 := by
  intro ci h
  have hc : ci = 1 := by rcases am_g_of h with h | h <;> omega
  subst hc
  exact Or.inl ⟨_, _, _, "ConeForms$Scanner", "open", "[C", rfl, i_1, by decide, rfl, rfl, Or.inl rfl, Or.inl g_86⟩
theorem fo_53 : sd_FO "ConeForms$Scanner" 25 8263 := by
  intro ci h
  have hc : ci = 1 := by rcases am_g_of h with h | h <;> omega
  subst hc
  exact Or.inl ⟨_, _, _, "ConeForms$Scanner", "wants", "[I", rfl, i_1, by decide, rfl, rfl, Or.inl rfl, Or.inl g_87⟩
theorem fp_54 : sd_FP "ConeForms$Scanner" "push" 43 72 := by
  intro ci h
  have hc : ci = 1 := by rcases am_g_of h with h | h <;> omega
  subst hc
  exact ⟨_, _, _, "ConeForms$Scanner", "top", "I", _, t_1, rfl, i_1, t_1_ok, n_1, by decide, rfl, rfl, Or.inl rfl, Or.inl ⟨g_88, Or.inl rfl⟩, t_1_ok 8 (by decide), Or.inl ⟨rfl, rfl⟩⟩
theorem fp_55 : sd_FP "ConeForms$Scanner" "push" 32 65 := by
  intro ci h
  have hc : ci = 1 := by rcases am_g_of h with h | h <;> omega
  subst hc
  exact ⟨_, _, _, "ConeForms$Scanner", "at", "I", _, t_1, rfl, i_1, t_1_ok, n_1, by decide, rfl, rfl, Or.inl rfl, Or.inl ⟨g_77, Or.inl rfl⟩, t_1_ok 1 (by decide), Or.inl ⟨rfl, rfl⟩⟩
theorem fo_56 : sd_FO "ConeForms$Kind" 65 769 := by
  intro ci h
  have hc : ci = 12 := by rcases am_g_of h with h | h <;> omega
  subst hc
  exact Or.inr ⟨rfl, ("ConeForms$Kind", "bend", "I", [0, 1, 0, 1, 1, 1, 1, 2, 3, 2, 2, 2]), "ConeForms$Kind", List.mem_of_getElem? (i := 1) rfl, by decide, Or.inl rfl, Or.inl g_1461⟩
theorem fp_57 : sd_FP "ConeForms$Scanner" "then" 36 4162 := by
  intro ci h
  have hc : ci = 1 := by rcases am_g_of h with h | h <;> omega
  subst hc
  exact ⟨_, _, _, "ConeForms$Scanner", "operand", "Z", _, t_1, rfl, i_1, t_1_ok, n_1, by decide, rfl, rfl, Or.inl rfl, Or.inl ⟨g_79, Or.inl rfl⟩, t_1_ok 2 (by decide), Or.inr (Or.inl ⟨rfl, rfl⟩)⟩
theorem fp_58 : sd_FP "ConeForms$Scanner" "then" 32 65 := by
  intro ci h
  have hc : ci = 1 := by rcases am_g_of h with h | h <;> omega
  subst hc
  exact ⟨_, _, _, "ConeForms$Scanner", "at", "I", _, t_1, rfl, i_1, t_1_ok, n_1, by decide, rfl, rfl, Or.inl rfl, Or.inl ⟨g_77, Or.inl rfl⟩, t_1_ok 1 (by decide), Or.inl ⟨rfl, rfl⟩⟩
theorem fp_59 : sd_FP "ConeForms$Scanner" "then" 43 72 := by
  intro ci h
  have hc : ci = 1 := by rcases am_g_of h with h | h <;> omega
  subst hc
  exact ⟨_, _, _, "ConeForms$Scanner", "top", "I", _, t_1, rfl, i_1, t_1_ok, n_1, by decide, rfl, rfl, Or.inl rfl, Or.inl ⟨g_88, Or.inl rfl⟩, t_1_ok 8 (by decide), Or.inl ⟨rfl, rfl⟩⟩
theorem fp_60 : sd_FP "ConeForms$Scanner" "reduce" 43 72 := by
  intro ci h
  have hc : ci = 1 := by rcases am_g_of h with h | h <;> omega
  subst hc
  exact ⟨_, _, _, "ConeForms$Scanner", "top", "I", _, t_1, rfl, i_1, t_1_ok, n_1, by decide, rfl, rfl, Or.inl rfl, Or.inl ⟨g_88, Or.inl rfl⟩, t_1_ok 8 (by decide), Or.inl ⟨rfl, rfl⟩⟩
theorem fo_61 : sd_FO "ConeForms" 90 67 := by
  intro ci h
  have hc : ci = 1 := by rcases am_g_of h with h | h <;> omega
  subst hc
  exact Or.inl ⟨_, _, _, "ConeForms$Scanner", "steps", "I", rfl, i_1, by decide, rfl, rfl, Or.inl rfl, Or.inr ⟨_, k_n81⟩⟩
theorem fo_62 : sd_FO "ConeForms" 93 8260 := by
  intro ci h
  have hc : ci = 1 := by rcases am_g_of h with h | h <;> omega
  subst hc
  exact Or.inl ⟨_, _, _, "ConeForms$Scanner", "kinds", "[LConeForms$Kind;", rfl, i_1, by decide, rfl, rfl, Or.inl rfl, Or.inr ⟨_, k_n83⟩⟩
theorem fo_63 : sd_FO "ConeForms" 97 8261 := by
  intro ci h
  have hc : ci = 1 := by rcases am_g_of h with h | h <;> omega
  subst hc
  exact Or.inl ⟨_, _, _, "ConeForms$Scanner", "data", "[I", rfl, i_1, by decide, rfl, rfl, Or.inl rfl, Or.inr ⟨_, k_n85⟩⟩
theorem fo_64 : sd_FO "ConeForms" 34 8453 := by
  intro ci h
  have hc : ci = 4 := by rcases am_g_of h with h | h <;> omega
  subst hc
  exact Or.inl ⟨_, _, _, "ConeForms", "operands", "[LConeForms$Node;", rfl, i_4, by decide, rfl, rfl, Or.inl rfl, Or.inl g_161⟩
theorem fo_65 : sd_FO "ConeForms" 104 768 := by
  intro ci h
  have hc : ci = 12 := by rcases am_g_of h with h | h <;> omega
  subst hc
  exact Or.inr ⟨rfl, ("ConeForms$Kind", "arity", "I", [0, 0, 0, 2, 2, 1, 2, 2, 2, 1, 1, 3]), "ConeForms$Kind", List.mem_of_getElem? (i := 0) rfl, by decide, Or.inl rfl, Or.inr ⟨_, k_n1463⟩⟩
theorem fo_66 : sd_FO "ConeForms" 126 325 := by
  intro ci h
  rcases (show ci = 5 ∨ ci = 6 ∨ ci = 7 ∨ ci = 8 by rcases am_g_of h with h | h <;> omega) with rfl | rfl | rfl | rfl
  · exact Or.inl ⟨_, _, _, "ConeForms$Node", "index", "I", rfl, i_5, by decide, rfl, rfl, Or.inl rfl, Or.inl g_501⟩
  · exact Or.inl ⟨_, _, _, "ConeForms$Node", "index", "I", rfl, i_6, by decide, rfl, rfl, Or.inl rfl, Or.inl g_501⟩
  · exact Or.inl ⟨_, _, _, "ConeForms$Node", "index", "I", rfl, i_7, by decide, rfl, rfl, Or.inl rfl, Or.inl g_501⟩
  · exact Or.inl ⟨_, _, _, "ConeForms$Node", "index", "I", rfl, i_8, by decide, rfl, rfl, Or.inl rfl, Or.inl g_501⟩
theorem fo_67 : sd_FO "java/util/ArrayList" 9 8320 := by
  intro ci h
  have hc : ci = 2 := by rcases am_g_of h with h | h <;> omega
  subst hc
  exact Or.inl ⟨_, _, _, "java/util/ArrayList", "elementData", "[Ljava/lang/Object;", rfl, i_2, by decide, rfl, rfl, Or.inl rfl, Or.inl g_124⟩
theorem fo_68 : sd_FO "ConeForms" 129 8512 := by
  intro ci h
  rcases (show ci = 5 ∨ ci = 6 ∨ ci = 7 ∨ ci = 8 by rcases am_g_of h with h | h <;> omega) with rfl | rfl | rfl | rfl
  · exact Or.inl ⟨_, _, _, "ConeForms$Node", "kind", "LConeForms$Kind;", rfl, i_5, by decide, rfl, rfl, Or.inl rfl, Or.inl g_465⟩
  · exact Or.inl ⟨_, _, _, "ConeForms$Node", "kind", "LConeForms$Kind;", rfl, i_6, by decide, rfl, rfl, Or.inl rfl, Or.inl g_465⟩
  · exact Or.inl ⟨_, _, _, "ConeForms$Node", "kind", "LConeForms$Kind;", rfl, i_7, by decide, rfl, rfl, Or.inl rfl, Or.inl g_465⟩
  · exact Or.inl ⟨_, _, _, "ConeForms$Node", "kind", "LConeForms$Kind;", rfl, i_8, by decide, rfl, rfl, Or.inl rfl, Or.inl g_465⟩
theorem fo_69 : sd_FO "ConeForms" 133 321 := by
  intro ci h
  rcases (show ci = 5 ∨ ci = 6 ∨ ci = 7 ∨ ci = 8 by rcases am_g_of h with h | h <;> omega) with rfl | rfl | rfl | rfl
  · exact Or.inl ⟨_, _, _, "ConeForms$Node", "data", "I", rfl, i_5, by decide, rfl, rfl, Or.inl rfl, Or.inl g_469⟩
  · exact Or.inl ⟨_, _, _, "ConeForms$Node", "data", "I", rfl, i_6, by decide, rfl, rfl, Or.inl rfl, Or.inl g_469⟩
  · exact Or.inl ⟨_, _, _, "ConeForms$Node", "data", "I", rfl, i_7, by decide, rfl, rfl, Or.inl rfl, Or.inl g_469⟩
  · exact Or.inl ⟨_, _, _, "ConeForms$Node", "data", "I", rfl, i_8, by decide, rfl, rfl, Or.inl rfl, Or.inl g_469⟩
theorem fo_70 : sd_FO "ConeForms" 135 8514 := by
  intro ci h
  rcases (show ci = 5 ∨ ci = 6 ∨ ci = 7 ∨ ci = 8 by rcases am_g_of h with h | h <;> omega) with rfl | rfl | rfl | rfl
  · exact Or.inl ⟨_, _, _, "ConeForms$Node", "a", "LConeForms$Node;", rfl, i_5, by decide, rfl, rfl, Or.inl rfl, Or.inl g_477⟩
  · exact Or.inl ⟨_, _, _, "ConeForms$Node", "a", "LConeForms$Node;", rfl, i_6, by decide, rfl, rfl, Or.inl rfl, Or.inl g_477⟩
  · exact Or.inl ⟨_, _, _, "ConeForms$Node", "a", "LConeForms$Node;", rfl, i_7, by decide, rfl, rfl, Or.inl rfl, Or.inl g_477⟩
  · exact Or.inl ⟨_, _, _, "ConeForms$Node", "a", "LConeForms$Node;", rfl, i_8, by decide, rfl, rfl, Or.inl rfl, Or.inl g_477⟩
theorem fo_71 : sd_FO "ConeForms" 139 8515 := by
  intro ci h
  rcases (show ci = 5 ∨ ci = 6 ∨ ci = 7 ∨ ci = 8 by rcases am_g_of h with h | h <;> omega) with rfl | rfl | rfl | rfl
  · exact Or.inl ⟨_, _, _, "ConeForms$Node", "b", "LConeForms$Node;", rfl, i_5, by decide, rfl, rfl, Or.inl rfl, Or.inl g_485⟩
  · exact Or.inl ⟨_, _, _, "ConeForms$Node", "b", "LConeForms$Node;", rfl, i_6, by decide, rfl, rfl, Or.inl rfl, Or.inl g_485⟩
  · exact Or.inl ⟨_, _, _, "ConeForms$Node", "b", "LConeForms$Node;", rfl, i_7, by decide, rfl, rfl, Or.inl rfl, Or.inl g_485⟩
  · exact Or.inl ⟨_, _, _, "ConeForms$Node", "b", "LConeForms$Node;", rfl, i_8, by decide, rfl, rfl, Or.inl rfl, Or.inl g_485⟩
theorem fo_72 : sd_FO "ConeForms" 142 8516 := by
  intro ci h
  rcases (show ci = 5 ∨ ci = 6 ∨ ci = 7 ∨ ci = 8 by rcases am_g_of h with h | h <;> omega) with rfl | rfl | rfl | rfl
  · exact Or.inl ⟨_, _, _, "ConeForms$Node", "c", "LConeForms$Node;", rfl, i_5, by decide, rfl, rfl, Or.inl rfl, Or.inl g_489⟩
  · exact Or.inl ⟨_, _, _, "ConeForms$Node", "c", "LConeForms$Node;", rfl, i_6, by decide, rfl, rfl, Or.inl rfl, Or.inl g_489⟩
  · exact Or.inl ⟨_, _, _, "ConeForms$Node", "c", "LConeForms$Node;", rfl, i_7, by decide, rfl, rfl, Or.inl rfl, Or.inl g_489⟩
  · exact Or.inl ⟨_, _, _, "ConeForms$Node", "c", "LConeForms$Node;", rfl, i_8, by decide, rfl, rfl, Or.inl rfl, Or.inl g_489⟩
theorem fp_73 : sd_FP "ConeForms$Leaf" "<init>" 15 326 := by
  intro ci h
  rcases (show ci = 5 ∨ ci = 6 ∨ ci = 7 ∨ ci = 8 by rcases am_g_of h with h | h <;> omega) with rfl | rfl | rfl | rfl
  · exact ⟨_, _, _, "ConeForms$Leaf", "value", "I", _, t_5, rfl, i_5, t_5_ok, n_5, by decide, rfl, rfl, Or.inr g_504, Or.inl ⟨g_503, Or.inl rfl⟩, t_5_ok 6 (by decide), Or.inl ⟨rfl, rfl⟩⟩
  · exact ⟨_, _, _, "ConeForms$Leaf", "value", "I", _, t_6, rfl, i_6, t_6_ok, n_6, by decide, rfl, rfl, Or.inr g_504, Or.inl ⟨g_503, Or.inl rfl⟩, t_6_ok 6 (by decide), Or.inl ⟨rfl, rfl⟩⟩
  · exact ⟨_, _, _, "ConeForms$Leaf", "value", "I", _, t_7, rfl, i_7, t_7_ok, n_7, by decide, rfl, rfl, Or.inr g_504, Or.inl ⟨g_503, Or.inl rfl⟩, t_7_ok 6 (by decide), Or.inl ⟨rfl, rfl⟩⟩
  · exact ⟨_, _, _, "ConeForms$Leaf", "value", "I", _, t_8, rfl, i_8, t_8_ok, n_8, by decide, rfl, rfl, Or.inr g_504, Or.inl ⟨g_503, Or.inl rfl⟩, t_8_ok 6 (by decide), Or.inl ⟨rfl, rfl⟩⟩
theorem fp_74 : sd_FP "ConeForms$Node" "<init>" 9 331 := by
  intro ci h
  rcases (show ci = 5 ∨ ci = 6 ∨ ci = 7 ∨ ci = 8 by rcases am_g_of h with h | h <;> omega) with rfl | rfl | rfl | rfl
  · exact ⟨_, _, _, "ConeForms$Node", "column", "I", _, t_5, rfl, i_5, t_5_ok, n_5, by decide, rfl, rfl, Or.inl rfl, Or.inl ⟨g_524, Or.inl rfl⟩, t_5_ok 11 (by decide), Or.inl ⟨rfl, rfl⟩⟩
  · exact ⟨_, _, _, "ConeForms$Node", "column", "I", _, t_6, rfl, i_6, t_6_ok, n_6, by decide, rfl, rfl, Or.inl rfl, Or.inl ⟨g_524, Or.inl rfl⟩, t_6_ok 11 (by decide), Or.inl ⟨rfl, rfl⟩⟩
  · exact ⟨_, _, _, "ConeForms$Node", "column", "I", _, t_7, rfl, i_7, t_7_ok, n_7, by decide, rfl, rfl, Or.inl rfl, Or.inl ⟨g_524, Or.inl rfl⟩, t_7_ok 11 (by decide), Or.inl ⟨rfl, rfl⟩⟩
  · exact ⟨_, _, _, "ConeForms$Node", "column", "I", _, t_8, rfl, i_8, t_8_ok, n_8, by decide, rfl, rfl, Or.inl rfl, Or.inl ⟨g_524, Or.inl rfl⟩, t_8_ok 11 (by decide), Or.inl ⟨rfl, rfl⟩⟩
theorem fp_75 : sd_FP "ConeForms$Node" "<init>" 15 8512 := by
  intro ci h
  rcases (show ci = 5 ∨ ci = 6 ∨ ci = 7 ∨ ci = 8 by rcases am_g_of h with h | h <;> omega) with rfl | rfl | rfl | rfl
  · exact ⟨_, _, _, "ConeForms$Node", "kind", "LConeForms$Kind;", _, t_5, rfl, i_5, t_5_ok, n_5, by decide, rfl, rfl, Or.inl rfl, Or.inl ⟨g_458, Or.inr ⟨rfl, rfl, rfl⟩⟩, t_5_ok 0 (by decide), Or.inr (Or.inr (Or.inl ⟨rfl, Or.inl ⟨_, rfl⟩⟩))⟩
  · exact ⟨_, _, _, "ConeForms$Node", "kind", "LConeForms$Kind;", _, t_6, rfl, i_6, t_6_ok, n_6, by decide, rfl, rfl, Or.inl rfl, Or.inl ⟨g_458, Or.inr ⟨rfl, rfl, rfl⟩⟩, t_6_ok 0 (by decide), Or.inr (Or.inr (Or.inl ⟨rfl, Or.inl ⟨_, rfl⟩⟩))⟩
  · exact ⟨_, _, _, "ConeForms$Node", "kind", "LConeForms$Kind;", _, t_7, rfl, i_7, t_7_ok, n_7, by decide, rfl, rfl, Or.inl rfl, Or.inl ⟨g_458, Or.inr ⟨rfl, rfl, rfl⟩⟩, t_7_ok 0 (by decide), Or.inr (Or.inr (Or.inl ⟨rfl, Or.inl ⟨_, rfl⟩⟩))⟩
  · exact ⟨_, _, _, "ConeForms$Node", "kind", "LConeForms$Kind;", _, t_8, rfl, i_8, t_8_ok, n_8, by decide, rfl, rfl, Or.inl rfl, Or.inl ⟨g_458, Or.inr ⟨rfl, rfl, rfl⟩⟩, t_8_ok 0 (by decide), Or.inr (Or.inr (Or.inl ⟨rfl, Or.inl ⟨_, rfl⟩⟩))⟩
theorem fp_76 : sd_FP "ConeForms$Node" "<init>" 19 321 := by
  intro ci h
  rcases (show ci = 5 ∨ ci = 6 ∨ ci = 7 ∨ ci = 8 by rcases am_g_of h with h | h <;> omega) with rfl | rfl | rfl | rfl
  · exact ⟨_, _, _, "ConeForms$Node", "data", "I", _, t_5, rfl, i_5, t_5_ok, n_5, by decide, rfl, rfl, Or.inl rfl, Or.inl ⟨g_466, Or.inr ⟨rfl, rfl, rfl⟩⟩, t_5_ok 1 (by decide), Or.inl ⟨rfl, rfl⟩⟩
  · exact ⟨_, _, _, "ConeForms$Node", "data", "I", _, t_6, rfl, i_6, t_6_ok, n_6, by decide, rfl, rfl, Or.inl rfl, Or.inl ⟨g_466, Or.inr ⟨rfl, rfl, rfl⟩⟩, t_6_ok 1 (by decide), Or.inl ⟨rfl, rfl⟩⟩
  · exact ⟨_, _, _, "ConeForms$Node", "data", "I", _, t_7, rfl, i_7, t_7_ok, n_7, by decide, rfl, rfl, Or.inl rfl, Or.inl ⟨g_466, Or.inr ⟨rfl, rfl, rfl⟩⟩, t_7_ok 1 (by decide), Or.inl ⟨rfl, rfl⟩⟩
  · exact ⟨_, _, _, "ConeForms$Node", "data", "I", _, t_8, rfl, i_8, t_8_ok, n_8, by decide, rfl, rfl, Or.inl rfl, Or.inl ⟨g_466, Or.inr ⟨rfl, rfl, rfl⟩⟩, t_8_ok 1 (by decide), Or.inl ⟨rfl, rfl⟩⟩
theorem fp_77 : sd_FP "ConeForms$Node" "<init>" 22 8514 := by
  intro ci h
  rcases (show ci = 5 ∨ ci = 6 ∨ ci = 7 ∨ ci = 8 by rcases am_g_of h with h | h <;> omega) with rfl | rfl | rfl | rfl
  · exact ⟨_, _, _, "ConeForms$Node", "a", "LConeForms$Node;", _, t_5, rfl, i_5, t_5_ok, n_5, by decide, rfl, rfl, Or.inl rfl, Or.inl ⟨g_470, Or.inr ⟨rfl, rfl, rfl⟩⟩, t_5_ok 2 (by decide), Or.inr (Or.inr (Or.inl ⟨rfl, Or.inl ⟨_, rfl⟩⟩))⟩
  · exact ⟨_, _, _, "ConeForms$Node", "a", "LConeForms$Node;", _, t_6, rfl, i_6, t_6_ok, n_6, by decide, rfl, rfl, Or.inl rfl, Or.inl ⟨g_470, Or.inr ⟨rfl, rfl, rfl⟩⟩, t_6_ok 2 (by decide), Or.inr (Or.inr (Or.inl ⟨rfl, Or.inl ⟨_, rfl⟩⟩))⟩
  · exact ⟨_, _, _, "ConeForms$Node", "a", "LConeForms$Node;", _, t_7, rfl, i_7, t_7_ok, n_7, by decide, rfl, rfl, Or.inl rfl, Or.inl ⟨g_470, Or.inr ⟨rfl, rfl, rfl⟩⟩, t_7_ok 2 (by decide), Or.inr (Or.inr (Or.inl ⟨rfl, Or.inl ⟨_, rfl⟩⟩))⟩
  · exact ⟨_, _, _, "ConeForms$Node", "a", "LConeForms$Node;", _, t_8, rfl, i_8, t_8_ok, n_8, by decide, rfl, rfl, Or.inl rfl, Or.inl ⟨g_470, Or.inr ⟨rfl, rfl, rfl⟩⟩, t_8_ok 2 (by decide), Or.inr (Or.inr (Or.inl ⟨rfl, Or.inl ⟨_, rfl⟩⟩))⟩
theorem fp_78 : sd_FP "ConeForms$Node" "<init>" 26 8515 := by
  intro ci h
  rcases (show ci = 5 ∨ ci = 6 ∨ ci = 7 ∨ ci = 8 by rcases am_g_of h with h | h <;> omega) with rfl | rfl | rfl | rfl
  · exact ⟨_, _, _, "ConeForms$Node", "b", "LConeForms$Node;", _, t_5, rfl, i_5, t_5_ok, n_5, by decide, rfl, rfl, Or.inl rfl, Or.inl ⟨g_478, Or.inr ⟨rfl, rfl, rfl⟩⟩, t_5_ok 3 (by decide), Or.inr (Or.inr (Or.inl ⟨rfl, Or.inl ⟨_, rfl⟩⟩))⟩
  · exact ⟨_, _, _, "ConeForms$Node", "b", "LConeForms$Node;", _, t_6, rfl, i_6, t_6_ok, n_6, by decide, rfl, rfl, Or.inl rfl, Or.inl ⟨g_478, Or.inr ⟨rfl, rfl, rfl⟩⟩, t_6_ok 3 (by decide), Or.inr (Or.inr (Or.inl ⟨rfl, Or.inl ⟨_, rfl⟩⟩))⟩
  · exact ⟨_, _, _, "ConeForms$Node", "b", "LConeForms$Node;", _, t_7, rfl, i_7, t_7_ok, n_7, by decide, rfl, rfl, Or.inl rfl, Or.inl ⟨g_478, Or.inr ⟨rfl, rfl, rfl⟩⟩, t_7_ok 3 (by decide), Or.inr (Or.inr (Or.inl ⟨rfl, Or.inl ⟨_, rfl⟩⟩))⟩
  · exact ⟨_, _, _, "ConeForms$Node", "b", "LConeForms$Node;", _, t_8, rfl, i_8, t_8_ok, n_8, by decide, rfl, rfl, Or.inl rfl, Or.inl ⟨g_478, Or.inr ⟨rfl, rfl, rfl⟩⟩, t_8_ok 3 (by decide), Or.inr (Or.inr (Or.inl ⟨rfl, Or.inl ⟨_, rfl⟩⟩))⟩
theorem fp_79 : sd_FP "ConeForms$Node" "<init>" 29 8516 := by
  intro ci h
  rcases (show ci = 5 ∨ ci = 6 ∨ ci = 7 ∨ ci = 8 by rcases am_g_of h with h | h <;> omega) with rfl | rfl | rfl | rfl
  · exact ⟨_, _, _, "ConeForms$Node", "c", "LConeForms$Node;", _, t_5, rfl, i_5, t_5_ok, n_5, by decide, rfl, rfl, Or.inl rfl, Or.inl ⟨g_486, Or.inr ⟨rfl, rfl, rfl⟩⟩, t_5_ok 4 (by decide), Or.inr (Or.inr (Or.inl ⟨rfl, Or.inl ⟨_, rfl⟩⟩))⟩
  · exact ⟨_, _, _, "ConeForms$Node", "c", "LConeForms$Node;", _, t_6, rfl, i_6, t_6_ok, n_6, by decide, rfl, rfl, Or.inl rfl, Or.inl ⟨g_486, Or.inr ⟨rfl, rfl, rfl⟩⟩, t_6_ok 4 (by decide), Or.inr (Or.inr (Or.inl ⟨rfl, Or.inl ⟨_, rfl⟩⟩))⟩
  · exact ⟨_, _, _, "ConeForms$Node", "c", "LConeForms$Node;", _, t_7, rfl, i_7, t_7_ok, n_7, by decide, rfl, rfl, Or.inl rfl, Or.inl ⟨g_486, Or.inr ⟨rfl, rfl, rfl⟩⟩, t_7_ok 4 (by decide), Or.inr (Or.inr (Or.inl ⟨rfl, Or.inl ⟨_, rfl⟩⟩))⟩
  · exact ⟨_, _, _, "ConeForms$Node", "c", "LConeForms$Node;", _, t_8, rfl, i_8, t_8_ok, n_8, by decide, rfl, rfl, Or.inl rfl, Or.inl ⟨g_486, Or.inr ⟨rfl, rfl, rfl⟩⟩, t_8_ok 4 (by decide), Or.inr (Or.inr (Or.inl ⟨rfl, Or.inl ⟨_, rfl⟩⟩))⟩
theorem fo_80 : sd_FO "ConeForms$Bend" 9 8512 := by
  intro ci h
  rcases (show ci = 5 ∨ ci = 6 ∨ ci = 7 ∨ ci = 8 by rcases am_g_of h with h | h <;> omega) with rfl | rfl | rfl | rfl
  · exact Or.inl ⟨_, _, _, "ConeForms$Bend", "kind", "LConeForms$Kind;", rfl, i_5, by decide, rfl, rfl, Or.inr g_460, Or.inl g_459⟩
  · exact Or.inl ⟨_, _, _, "ConeForms$Bend", "kind", "LConeForms$Kind;", rfl, i_6, by decide, rfl, rfl, Or.inr g_460, Or.inl g_459⟩
  · exact Or.inl ⟨_, _, _, "ConeForms$Bend", "kind", "LConeForms$Kind;", rfl, i_7, by decide, rfl, rfl, Or.inr g_460, Or.inl g_459⟩
  · exact Or.inl ⟨_, _, _, "ConeForms$Bend", "kind", "LConeForms$Kind;", rfl, i_8, by decide, rfl, rfl, Or.inr g_460, Or.inl g_459⟩
theorem fo_81 : sd_FO "ConeForms$Bend" 21 8514 := by
  intro ci h
  rcases (show ci = 5 ∨ ci = 6 ∨ ci = 7 ∨ ci = 8 by rcases am_g_of h with h | h <;> omega) with rfl | rfl | rfl | rfl
  · exact Or.inl ⟨_, _, _, "ConeForms$Bend", "a", "LConeForms$Node;", rfl, i_5, by decide, rfl, rfl, Or.inr g_476, Or.inl g_475⟩
  · exact Or.inl ⟨_, _, _, "ConeForms$Bend", "a", "LConeForms$Node;", rfl, i_6, by decide, rfl, rfl, Or.inr g_476, Or.inl g_475⟩
  · exact Or.inl ⟨_, _, _, "ConeForms$Bend", "a", "LConeForms$Node;", rfl, i_7, by decide, rfl, rfl, Or.inr g_476, Or.inl g_475⟩
  · exact Or.inl ⟨_, _, _, "ConeForms$Bend", "a", "LConeForms$Node;", rfl, i_8, by decide, rfl, rfl, Or.inr g_476, Or.inl g_475⟩
theorem fo_82 : sd_FO "ConeForms$Bend" 25 327 := by
  intro ci h
  rcases (show ci = 5 ∨ ci = 6 ∨ ci = 7 ∨ ci = 8 by rcases am_g_of h with h | h <;> omega) with rfl | rfl | rfl | rfl
  · exact Or.inl ⟨_, _, _, "ConeForms$Node", "reach", "I", rfl, i_5, by decide, rfl, rfl, Or.inl rfl, Or.inl g_513⟩
  · exact Or.inl ⟨_, _, _, "ConeForms$Node", "reach", "I", rfl, i_6, by decide, rfl, rfl, Or.inl rfl, Or.inl g_513⟩
  · exact Or.inl ⟨_, _, _, "ConeForms$Node", "reach", "I", rfl, i_7, by decide, rfl, rfl, Or.inl rfl, Or.inl g_513⟩
  · exact Or.inl ⟨_, _, _, "ConeForms$Node", "reach", "I", rfl, i_8, by decide, rfl, rfl, Or.inl rfl, Or.inl g_513⟩
theorem fo_83 : sd_FO "ConeForms$Bend" 29 8515 := by
  intro ci h
  rcases (show ci = 5 ∨ ci = 6 ∨ ci = 7 ∨ ci = 8 by rcases am_g_of h with h | h <;> omega) with rfl | rfl | rfl | rfl
  · exact Or.inl ⟨_, _, _, "ConeForms$Bend", "b", "LConeForms$Node;", rfl, i_5, by decide, rfl, rfl, Or.inr g_484, Or.inl g_483⟩
  · exact Or.inl ⟨_, _, _, "ConeForms$Bend", "b", "LConeForms$Node;", rfl, i_6, by decide, rfl, rfl, Or.inr g_484, Or.inl g_483⟩
  · exact Or.inl ⟨_, _, _, "ConeForms$Bend", "b", "LConeForms$Node;", rfl, i_7, by decide, rfl, rfl, Or.inr g_484, Or.inl g_483⟩
  · exact Or.inl ⟨_, _, _, "ConeForms$Bend", "b", "LConeForms$Node;", rfl, i_8, by decide, rfl, rfl, Or.inr g_484, Or.inl g_483⟩
theorem fo_84 : sd_FO "ConeForms$Bend" 32 8516 := by
  intro ci h
  rcases (show ci = 5 ∨ ci = 6 ∨ ci = 7 ∨ ci = 8 by rcases am_g_of h with h | h <;> omega) with rfl | rfl | rfl | rfl
  · exact Or.inl ⟨_, _, _, "ConeForms$Bend", "c", "LConeForms$Node;", rfl, i_5, by decide, rfl, rfl, Or.inr g_488, Or.inl g_487⟩
  · exact Or.inl ⟨_, _, _, "ConeForms$Bend", "c", "LConeForms$Node;", rfl, i_6, by decide, rfl, rfl, Or.inr g_488, Or.inl g_487⟩
  · exact Or.inl ⟨_, _, _, "ConeForms$Bend", "c", "LConeForms$Node;", rfl, i_7, by decide, rfl, rfl, Or.inr g_488, Or.inl g_487⟩
  · exact Or.inl ⟨_, _, _, "ConeForms$Bend", "c", "LConeForms$Node;", rfl, i_8, by decide, rfl, rfl, Or.inr g_488, Or.inl g_487⟩
theorem fo_85 : sd_FO "java/lang/Enum" 7 770 := by
  intro ci h
  have hc : ci = 12 := by rcases am_g_of h with h | h <;> omega
  subst hc
  exact Or.inr ⟨rfl, ("java/lang/Enum", "ordinal", "I", [0, 1, 2, 3, 4, 5, 6, 7, 8, 9, 10, 11]), "java/lang/Enum", List.mem_of_getElem? (i := 2) rfl, by decide, Or.inl rfl, Or.inl g_1464⟩
theorem fo_86 : sd_FO "ConeForms$Leaf" 21 8512 := by
  intro ci h
  rcases (show ci = 5 ∨ ci = 6 ∨ ci = 7 ∨ ci = 8 by rcases am_g_of h with h | h <;> omega) with rfl | rfl | rfl | rfl
  · exact Or.inl ⟨_, _, _, "ConeForms$Leaf", "kind", "LConeForms$Kind;", rfl, i_5, by decide, rfl, rfl, Or.inr g_462, Or.inl g_461⟩
  · exact Or.inl ⟨_, _, _, "ConeForms$Leaf", "kind", "LConeForms$Kind;", rfl, i_6, by decide, rfl, rfl, Or.inr g_462, Or.inl g_461⟩
  · exact Or.inl ⟨_, _, _, "ConeForms$Leaf", "kind", "LConeForms$Kind;", rfl, i_7, by decide, rfl, rfl, Or.inr g_462, Or.inl g_461⟩
  · exact Or.inl ⟨_, _, _, "ConeForms$Leaf", "kind", "LConeForms$Kind;", rfl, i_8, by decide, rfl, rfl, Or.inr g_462, Or.inl g_461⟩
theorem fo_87 : sd_FO "ConeForms$Leaf" 24 321 := by
  intro ci h
  rcases (show ci = 5 ∨ ci = 6 ∨ ci = 7 ∨ ci = 8 by rcases am_g_of h with h | h <;> omega) with rfl | rfl | rfl | rfl
  · exact Or.inl ⟨_, _, _, "ConeForms$Leaf", "data", "I", rfl, i_5, by decide, rfl, rfl, Or.inr g_468, Or.inl g_467⟩
  · exact Or.inl ⟨_, _, _, "ConeForms$Leaf", "data", "I", rfl, i_6, by decide, rfl, rfl, Or.inr g_468, Or.inl g_467⟩
  · exact Or.inl ⟨_, _, _, "ConeForms$Leaf", "data", "I", rfl, i_7, by decide, rfl, rfl, Or.inr g_468, Or.inl g_467⟩
  · exact Or.inl ⟨_, _, _, "ConeForms$Leaf", "data", "I", rfl, i_8, by decide, rfl, rfl, Or.inr g_468, Or.inl g_467⟩
theorem fo_88 : sd_FO "ConeForms$Linear" 7 8515 := by
  intro ci h
  rcases (show ci = 5 ∨ ci = 6 ∨ ci = 7 ∨ ci = 8 by rcases am_g_of h with h | h <;> omega) with rfl | rfl | rfl | rfl
  · exact Or.inl ⟨_, _, _, "ConeForms$Linear", "b", "LConeForms$Node;", rfl, i_5, by decide, rfl, rfl, Or.inr g_480, Or.inl g_479⟩
  · exact Or.inl ⟨_, _, _, "ConeForms$Linear", "b", "LConeForms$Node;", rfl, i_6, by decide, rfl, rfl, Or.inr g_480, Or.inl g_479⟩
  · exact Or.inl ⟨_, _, _, "ConeForms$Linear", "b", "LConeForms$Node;", rfl, i_7, by decide, rfl, rfl, Or.inr g_480, Or.inl g_479⟩
  · exact Or.inl ⟨_, _, _, "ConeForms$Linear", "b", "LConeForms$Node;", rfl, i_8, by decide, rfl, rfl, Or.inr g_480, Or.inl g_479⟩
theorem fo_89 : sd_FO "ConeForms$Linear" 13 8514 := by
  intro ci h
  rcases (show ci = 5 ∨ ci = 6 ∨ ci = 7 ∨ ci = 8 by rcases am_g_of h with h | h <;> omega) with rfl | rfl | rfl | rfl
  · exact Or.inl ⟨_, _, _, "ConeForms$Linear", "a", "LConeForms$Node;", rfl, i_5, by decide, rfl, rfl, Or.inr g_474, Or.inl g_473⟩
  · exact Or.inl ⟨_, _, _, "ConeForms$Linear", "a", "LConeForms$Node;", rfl, i_6, by decide, rfl, rfl, Or.inr g_474, Or.inl g_473⟩
  · exact Or.inl ⟨_, _, _, "ConeForms$Linear", "a", "LConeForms$Node;", rfl, i_7, by decide, rfl, rfl, Or.inr g_474, Or.inl g_473⟩
  · exact Or.inl ⟨_, _, _, "ConeForms$Linear", "a", "LConeForms$Node;", rfl, i_8, by decide, rfl, rfl, Or.inr g_474, Or.inl g_473⟩
theorem fo_90 : sd_FO "ConeForms$Linear" 16 327 := by
  intro ci h
  rcases (show ci = 5 ∨ ci = 6 ∨ ci = 7 ∨ ci = 8 by rcases am_g_of h with h | h <;> omega) with rfl | rfl | rfl | rfl
  · exact Or.inl ⟨_, _, _, "ConeForms$Node", "reach", "I", rfl, i_5, by decide, rfl, rfl, Or.inl rfl, Or.inl g_512⟩
  · exact Or.inl ⟨_, _, _, "ConeForms$Node", "reach", "I", rfl, i_6, by decide, rfl, rfl, Or.inl rfl, Or.inl g_512⟩
  · exact Or.inl ⟨_, _, _, "ConeForms$Node", "reach", "I", rfl, i_7, by decide, rfl, rfl, Or.inl rfl, Or.inl g_512⟩
  · exact Or.inl ⟨_, _, _, "ConeForms$Node", "reach", "I", rfl, i_8, by decide, rfl, rfl, Or.inl rfl, Or.inl g_512⟩
theorem fo_91 : sd_FO "ConeForms$Product" 15 8514 := by
  intro ci h
  rcases (show ci = 5 ∨ ci = 6 ∨ ci = 7 ∨ ci = 8 by rcases am_g_of h with h | h <;> omega) with rfl | rfl | rfl | rfl
  · exact Or.inl ⟨_, _, _, "ConeForms$Product", "a", "LConeForms$Node;", rfl, i_5, by decide, rfl, rfl, Or.inr g_472, Or.inl g_471⟩
  · exact Or.inl ⟨_, _, _, "ConeForms$Product", "a", "LConeForms$Node;", rfl, i_6, by decide, rfl, rfl, Or.inr g_472, Or.inl g_471⟩
  · exact Or.inl ⟨_, _, _, "ConeForms$Product", "a", "LConeForms$Node;", rfl, i_7, by decide, rfl, rfl, Or.inr g_472, Or.inl g_471⟩
  · exact Or.inl ⟨_, _, _, "ConeForms$Product", "a", "LConeForms$Node;", rfl, i_8, by decide, rfl, rfl, Or.inr g_472, Or.inl g_471⟩
theorem fo_92 : sd_FO "ConeForms$Product" 21 327 := by
  intro ci h
  rcases (show ci = 5 ∨ ci = 6 ∨ ci = 7 ∨ ci = 8 by rcases am_g_of h with h | h <;> omega) with rfl | rfl | rfl | rfl
  · exact Or.inl ⟨_, _, _, "ConeForms$Node", "reach", "I", rfl, i_5, by decide, rfl, rfl, Or.inl rfl, Or.inl g_511⟩
  · exact Or.inl ⟨_, _, _, "ConeForms$Node", "reach", "I", rfl, i_6, by decide, rfl, rfl, Or.inl rfl, Or.inl g_511⟩
  · exact Or.inl ⟨_, _, _, "ConeForms$Node", "reach", "I", rfl, i_7, by decide, rfl, rfl, Or.inl rfl, Or.inl g_511⟩
  · exact Or.inl ⟨_, _, _, "ConeForms$Node", "reach", "I", rfl, i_8, by decide, rfl, rfl, Or.inl rfl, Or.inl g_511⟩
theorem fo_93 : sd_FO "ConeForms$Product" 25 8515 := by
  intro ci h
  rcases (show ci = 5 ∨ ci = 6 ∨ ci = 7 ∨ ci = 8 by rcases am_g_of h with h | h <;> omega) with rfl | rfl | rfl | rfl
  · exact Or.inl ⟨_, _, _, "ConeForms$Product", "b", "LConeForms$Node;", rfl, i_5, by decide, rfl, rfl, Or.inr g_482, Or.inl g_481⟩
  · exact Or.inl ⟨_, _, _, "ConeForms$Product", "b", "LConeForms$Node;", rfl, i_6, by decide, rfl, rfl, Or.inr g_482, Or.inl g_481⟩
  · exact Or.inl ⟨_, _, _, "ConeForms$Product", "b", "LConeForms$Node;", rfl, i_7, by decide, rfl, rfl, Or.inr g_482, Or.inl g_481⟩
  · exact Or.inl ⟨_, _, _, "ConeForms$Product", "b", "LConeForms$Node;", rfl, i_8, by decide, rfl, rfl, Or.inr g_482, Or.inl g_481⟩
theorem fp_94 : sd_FP "ConeForms" "settle" 126 325 := by
  intro ci h
  rcases (show ci = 5 ∨ ci = 6 ∨ ci = 7 ∨ ci = 8 by rcases am_g_of h with h | h <;> omega) with rfl | rfl | rfl | rfl
  · exact ⟨_, _, _, "ConeForms$Node", "index", "I", _, t_5, rfl, i_5, t_5_ok, n_5, by decide, rfl, rfl, Or.inl rfl, Or.inl ⟨g_501, Or.inl rfl⟩, t_5_ok 5 (by decide), Or.inl ⟨rfl, rfl⟩⟩
  · exact ⟨_, _, _, "ConeForms$Node", "index", "I", _, t_6, rfl, i_6, t_6_ok, n_6, by decide, rfl, rfl, Or.inl rfl, Or.inl ⟨g_501, Or.inl rfl⟩, t_6_ok 5 (by decide), Or.inl ⟨rfl, rfl⟩⟩
  · exact ⟨_, _, _, "ConeForms$Node", "index", "I", _, t_7, rfl, i_7, t_7_ok, n_7, by decide, rfl, rfl, Or.inl rfl, Or.inl ⟨g_501, Or.inl rfl⟩, t_7_ok 5 (by decide), Or.inl ⟨rfl, rfl⟩⟩
  · exact ⟨_, _, _, "ConeForms$Node", "index", "I", _, t_8, rfl, i_8, t_8_ok, n_8, by decide, rfl, rfl, Or.inl rfl, Or.inl ⟨g_501, Or.inl rfl⟩, t_8_ok 5 (by decide), Or.inl ⟨rfl, rfl⟩⟩
theorem fp_95 : sd_FP "ConeForms" "settle" 171 327 := by
  intro ci h
  rcases (show ci = 5 ∨ ci = 6 ∨ ci = 7 ∨ ci = 8 by rcases am_g_of h with h | h <;> omega) with rfl | rfl | rfl | rfl
  · exact ⟨_, _, _, "ConeForms$Node", "reach", "I", _, t_5, rfl, i_5, t_5_ok, n_5, by decide, rfl, rfl, Or.inl rfl, Or.inl ⟨g_514, Or.inl rfl⟩, t_5_ok 7 (by decide), Or.inl ⟨rfl, rfl⟩⟩
  · exact ⟨_, _, _, "ConeForms$Node", "reach", "I", _, t_6, rfl, i_6, t_6_ok, n_6, by decide, rfl, rfl, Or.inl rfl, Or.inl ⟨g_514, Or.inl rfl⟩, t_6_ok 7 (by decide), Or.inl ⟨rfl, rfl⟩⟩
  · exact ⟨_, _, _, "ConeForms$Node", "reach", "I", _, t_7, rfl, i_7, t_7_ok, n_7, by decide, rfl, rfl, Or.inl rfl, Or.inl ⟨g_514, Or.inl rfl⟩, t_7_ok 7 (by decide), Or.inl ⟨rfl, rfl⟩⟩
  · exact ⟨_, _, _, "ConeForms$Node", "reach", "I", _, t_8, rfl, i_8, t_8_ok, n_8, by decide, rfl, rfl, Or.inl rfl, Or.inl ⟨g_514, Or.inl rfl⟩, t_8_ok 7 (by decide), Or.inl ⟨rfl, rfl⟩⟩
theorem fp_96 : sd_FP "ConeForms" "settle" 177 328 := by
  intro ci h
  rcases (show ci = 5 ∨ ci = 6 ∨ ci = 7 ∨ ci = 8 by rcases am_g_of h with h | h <;> omega) with rfl | rfl | rfl | rfl
  · exact ⟨_, _, _, "ConeForms$Node", "signs", "I", _, t_5, rfl, i_5, t_5_ok, n_5, by decide, rfl, rfl, Or.inl rfl, Or.inl ⟨g_518, Or.inl rfl⟩, t_5_ok 8 (by decide), Or.inl ⟨rfl, rfl⟩⟩
  · exact ⟨_, _, _, "ConeForms$Node", "signs", "I", _, t_6, rfl, i_6, t_6_ok, n_6, by decide, rfl, rfl, Or.inl rfl, Or.inl ⟨g_518, Or.inl rfl⟩, t_6_ok 8 (by decide), Or.inl ⟨rfl, rfl⟩⟩
  · exact ⟨_, _, _, "ConeForms$Node", "signs", "I", _, t_7, rfl, i_7, t_7_ok, n_7, by decide, rfl, rfl, Or.inl rfl, Or.inl ⟨g_518, Or.inl rfl⟩, t_7_ok 8 (by decide), Or.inl ⟨rfl, rfl⟩⟩
  · exact ⟨_, _, _, "ConeForms$Node", "signs", "I", _, t_8, rfl, i_8, t_8_ok, n_8, by decide, rfl, rfl, Or.inl rfl, Or.inl ⟨g_518, Or.inl rfl⟩, t_8_ok 8 (by decide), Or.inl ⟨rfl, rfl⟩⟩
theorem fp_97 : sd_FP "ConeForms" "settle" 186 326 := by
  intro ci h
  rcases (show ci = 5 ∨ ci = 6 ∨ ci = 7 ∨ ci = 8 by rcases am_g_of h with h | h <;> omega) with rfl | rfl | rfl | rfl
  · exact ⟨_, _, _, "ConeForms$Node", "value", "I", _, t_5, rfl, i_5, t_5_ok, n_5, by decide, rfl, rfl, Or.inl rfl, Or.inl ⟨g_510, Or.inl rfl⟩, t_5_ok 6 (by decide), Or.inl ⟨rfl, rfl⟩⟩
  · exact ⟨_, _, _, "ConeForms$Node", "value", "I", _, t_6, rfl, i_6, t_6_ok, n_6, by decide, rfl, rfl, Or.inl rfl, Or.inl ⟨g_510, Or.inl rfl⟩, t_6_ok 6 (by decide), Or.inl ⟨rfl, rfl⟩⟩
  · exact ⟨_, _, _, "ConeForms$Node", "value", "I", _, t_7, rfl, i_7, t_7_ok, n_7, by decide, rfl, rfl, Or.inl rfl, Or.inl ⟨g_510, Or.inl rfl⟩, t_7_ok 6 (by decide), Or.inl ⟨rfl, rfl⟩⟩
  · exact ⟨_, _, _, "ConeForms$Node", "value", "I", _, t_8, rfl, i_8, t_8_ok, n_8, by decide, rfl, rfl, Or.inl rfl, Or.inl ⟨g_510, Or.inl rfl⟩, t_8_ok 6 (by decide), Or.inl ⟨rfl, rfl⟩⟩
theorem fo_98 : sd_FO "ConeForms$Bend" 51 328 := by
  intro ci h
  rcases (show ci = 5 ∨ ci = 6 ∨ ci = 7 ∨ ci = 8 by rcases am_g_of h with h | h <;> omega) with rfl | rfl | rfl | rfl
  · exact Or.inl ⟨_, _, _, "ConeForms$Node", "signs", "I", rfl, i_5, by decide, rfl, rfl, Or.inl rfl, Or.inl g_517⟩
  · exact Or.inl ⟨_, _, _, "ConeForms$Node", "signs", "I", rfl, i_6, by decide, rfl, rfl, Or.inl rfl, Or.inl g_517⟩
  · exact Or.inl ⟨_, _, _, "ConeForms$Node", "signs", "I", rfl, i_7, by decide, rfl, rfl, Or.inl rfl, Or.inl g_517⟩
  · exact Or.inl ⟨_, _, _, "ConeForms$Node", "signs", "I", rfl, i_8, by decide, rfl, rfl, Or.inl rfl, Or.inl g_517⟩
theorem fo_99 : sd_FO "ConeForms$Linear" 20 8512 := by
  intro ci h
  rcases (show ci = 5 ∨ ci = 6 ∨ ci = 7 ∨ ci = 8 by rcases am_g_of h with h | h <;> omega) with rfl | rfl | rfl | rfl
  · exact Or.inl ⟨_, _, _, "ConeForms$Linear", "kind", "LConeForms$Kind;", rfl, i_5, by decide, rfl, rfl, Or.inr g_464, Or.inl g_463⟩
  · exact Or.inl ⟨_, _, _, "ConeForms$Linear", "kind", "LConeForms$Kind;", rfl, i_6, by decide, rfl, rfl, Or.inr g_464, Or.inl g_463⟩
  · exact Or.inl ⟨_, _, _, "ConeForms$Linear", "kind", "LConeForms$Kind;", rfl, i_7, by decide, rfl, rfl, Or.inr g_464, Or.inl g_463⟩
  · exact Or.inl ⟨_, _, _, "ConeForms$Linear", "kind", "LConeForms$Kind;", rfl, i_8, by decide, rfl, rfl, Or.inr g_464, Or.inl g_463⟩
theorem fo_100 : sd_FO "ConeForms$Linear" 35 328 := by
  intro ci h
  rcases (show ci = 5 ∨ ci = 6 ∨ ci = 7 ∨ ci = 8 by rcases am_g_of h with h | h <;> omega) with rfl | rfl | rfl | rfl
  · exact Or.inl ⟨_, _, _, "ConeForms$Node", "signs", "I", rfl, i_5, by decide, rfl, rfl, Or.inl rfl, Or.inl g_516⟩
  · exact Or.inl ⟨_, _, _, "ConeForms$Node", "signs", "I", rfl, i_6, by decide, rfl, rfl, Or.inl rfl, Or.inl g_516⟩
  · exact Or.inl ⟨_, _, _, "ConeForms$Node", "signs", "I", rfl, i_7, by decide, rfl, rfl, Or.inl rfl, Or.inl g_516⟩
  · exact Or.inl ⟨_, _, _, "ConeForms$Node", "signs", "I", rfl, i_8, by decide, rfl, rfl, Or.inl rfl, Or.inl g_516⟩
theorem fo_101 : sd_FO "ConeForms$Product" 31 328 := by
  intro ci h
  rcases (show ci = 5 ∨ ci = 6 ∨ ci = 7 ∨ ci = 8 by rcases am_g_of h with h | h <;> omega) with rfl | rfl | rfl | rfl
  · exact Or.inl ⟨_, _, _, "ConeForms$Node", "signs", "I", rfl, i_5, by decide, rfl, rfl, Or.inl rfl, Or.inl g_515⟩
  · exact Or.inl ⟨_, _, _, "ConeForms$Node", "signs", "I", rfl, i_6, by decide, rfl, rfl, Or.inl rfl, Or.inl g_515⟩
  · exact Or.inl ⟨_, _, _, "ConeForms$Node", "signs", "I", rfl, i_7, by decide, rfl, rfl, Or.inl rfl, Or.inl g_515⟩
  · exact Or.inl ⟨_, _, _, "ConeForms$Node", "signs", "I", rfl, i_8, by decide, rfl, rfl, Or.inl rfl, Or.inl g_515⟩
theorem fo_102 : sd_FO "ConeForms$Node" 15 8512 := by
  intro ci h
  rcases (show ci = 5 ∨ ci = 6 ∨ ci = 7 ∨ ci = 8 by rcases am_g_of h with h | h <;> omega) with rfl | rfl | rfl | rfl
  · exact Or.inl ⟨_, _, _, "ConeForms$Node", "kind", "LConeForms$Kind;", rfl, i_5, by decide, rfl, rfl, Or.inl rfl, Or.inl g_458⟩
  · exact Or.inl ⟨_, _, _, "ConeForms$Node", "kind", "LConeForms$Kind;", rfl, i_6, by decide, rfl, rfl, Or.inl rfl, Or.inl g_458⟩
  · exact Or.inl ⟨_, _, _, "ConeForms$Node", "kind", "LConeForms$Kind;", rfl, i_7, by decide, rfl, rfl, Or.inl rfl, Or.inl g_458⟩
  · exact Or.inl ⟨_, _, _, "ConeForms$Node", "kind", "LConeForms$Kind;", rfl, i_8, by decide, rfl, rfl, Or.inl rfl, Or.inl g_458⟩
theorem fo_103 : sd_FO "ConeForms$Node" 35 769 := by
  intro ci h
  have hc : ci = 12 := by rcases am_g_of h with h | h <;> omega
  subst hc
  exact Or.inr ⟨rfl, ("ConeForms$Kind", "bend", "I", [0, 1, 0, 1, 1, 1, 1, 2, 3, 2, 2, 2]), "ConeForms$Kind", List.mem_of_getElem? (i := 1) rfl, by decide, Or.inl rfl, Or.inr ⟨_, k_n1465⟩⟩
theorem fo_104 : sd_FO "ConeForms$Node" 51 768 := by
  intro ci h
  have hc : ci = 12 := by rcases am_g_of h with h | h <;> omega
  subst hc
  exact Or.inr ⟨rfl, ("ConeForms$Kind", "arity", "I", [0, 0, 0, 2, 2, 1, 2, 2, 2, 1, 1, 3]), "ConeForms$Kind", List.mem_of_getElem? (i := 0) rfl, by decide, Or.inl rfl, Or.inr ⟨_, k_n1466⟩⟩
theorem fo_105 : sd_FO "ConeForms$Node" 44 329 := by
  intro ci h
  rcases (show ci = 5 ∨ ci = 6 ∨ ci = 7 ∨ ci = 8 by rcases am_g_of h with h | h <;> omega) with rfl | rfl | rfl | rfl
  · exact Or.inl ⟨_, _, _, "ConeForms$Node", "curvature", "I", rfl, i_5, by decide, rfl, rfl, Or.inl rfl, Or.inl g_520⟩
  · exact Or.inl ⟨_, _, _, "ConeForms$Node", "curvature", "I", rfl, i_6, by decide, rfl, rfl, Or.inl rfl, Or.inl g_520⟩
  · exact Or.inl ⟨_, _, _, "ConeForms$Node", "curvature", "I", rfl, i_7, by decide, rfl, rfl, Or.inl rfl, Or.inl g_520⟩
  · exact Or.inl ⟨_, _, _, "ConeForms$Node", "curvature", "I", rfl, i_8, by decide, rfl, rfl, Or.inl rfl, Or.inl g_520⟩
theorem fp_106 : sd_FP "ConeForms$Node" "judge" 44 329 := by
  intro ci h
  rcases (show ci = 5 ∨ ci = 6 ∨ ci = 7 ∨ ci = 8 by rcases am_g_of h with h | h <;> omega) with rfl | rfl | rfl | rfl
  · exact ⟨_, _, _, "ConeForms$Node", "curvature", "I", _, t_5, rfl, i_5, t_5_ok, n_5, by decide, rfl, rfl, Or.inl rfl, Or.inl ⟨g_520, Or.inl rfl⟩, t_5_ok 9 (by decide), Or.inl ⟨rfl, rfl⟩⟩
  · exact ⟨_, _, _, "ConeForms$Node", "curvature", "I", _, t_6, rfl, i_6, t_6_ok, n_6, by decide, rfl, rfl, Or.inl rfl, Or.inl ⟨g_520, Or.inl rfl⟩, t_6_ok 9 (by decide), Or.inl ⟨rfl, rfl⟩⟩
  · exact ⟨_, _, _, "ConeForms$Node", "curvature", "I", _, t_7, rfl, i_7, t_7_ok, n_7, by decide, rfl, rfl, Or.inl rfl, Or.inl ⟨g_520, Or.inl rfl⟩, t_7_ok 9 (by decide), Or.inl ⟨rfl, rfl⟩⟩
  · exact ⟨_, _, _, "ConeForms$Node", "curvature", "I", _, t_8, rfl, i_8, t_8_ok, n_8, by decide, rfl, rfl, Or.inl rfl, Or.inl ⟨g_520, Or.inl rfl⟩, t_8_ok 9 (by decide), Or.inl ⟨rfl, rfl⟩⟩
theorem fp_107 : sd_FP "ConeForms$Node" "judge" 62 330 := by
  intro ci h
  rcases (show ci = 5 ∨ ci = 6 ∨ ci = 7 ∨ ci = 8 by rcases am_g_of h with h | h <;> omega) with rfl | rfl | rfl | rfl
  · exact ⟨_, _, _, "ConeForms$Node", "blame", "I", _, t_5, rfl, i_5, t_5_ok, n_5, by decide, rfl, rfl, Or.inl rfl, Or.inl ⟨g_522, Or.inl rfl⟩, t_5_ok 10 (by decide), Or.inl ⟨rfl, rfl⟩⟩
  · exact ⟨_, _, _, "ConeForms$Node", "blame", "I", _, t_6, rfl, i_6, t_6_ok, n_6, by decide, rfl, rfl, Or.inl rfl, Or.inl ⟨g_522, Or.inl rfl⟩, t_6_ok 10 (by decide), Or.inl ⟨rfl, rfl⟩⟩
  · exact ⟨_, _, _, "ConeForms$Node", "blame", "I", _, t_7, rfl, i_7, t_7_ok, n_7, by decide, rfl, rfl, Or.inl rfl, Or.inl ⟨g_522, Or.inl rfl⟩, t_7_ok 10 (by decide), Or.inl ⟨rfl, rfl⟩⟩
  · exact ⟨_, _, _, "ConeForms$Node", "blame", "I", _, t_8, rfl, i_8, t_8_ok, n_8, by decide, rfl, rfl, Or.inl rfl, Or.inl ⟨g_522, Or.inl rfl⟩, t_8_ok 10 (by decide), Or.inl ⟨rfl, rfl⟩⟩
theorem fo_108 : sd_FO "ConeForms$Node" 22 8514 := by
  intro ci h
  rcases (show ci = 5 ∨ ci = 6 ∨ ci = 7 ∨ ci = 8 by rcases am_g_of h with h | h <;> omega) with rfl | rfl | rfl | rfl
  · exact Or.inl ⟨_, _, _, "ConeForms$Node", "a", "LConeForms$Node;", rfl, i_5, by decide, rfl, rfl, Or.inl rfl, Or.inl g_470⟩
  · exact Or.inl ⟨_, _, _, "ConeForms$Node", "a", "LConeForms$Node;", rfl, i_6, by decide, rfl, rfl, Or.inl rfl, Or.inl g_470⟩
  · exact Or.inl ⟨_, _, _, "ConeForms$Node", "a", "LConeForms$Node;", rfl, i_7, by decide, rfl, rfl, Or.inl rfl, Or.inl g_470⟩
  · exact Or.inl ⟨_, _, _, "ConeForms$Node", "a", "LConeForms$Node;", rfl, i_8, by decide, rfl, rfl, Or.inl rfl, Or.inl g_470⟩
theorem fo_109 : sd_FO "ConeForms$Node" 26 8515 := by
  intro ci h
  rcases (show ci = 5 ∨ ci = 6 ∨ ci = 7 ∨ ci = 8 by rcases am_g_of h with h | h <;> omega) with rfl | rfl | rfl | rfl
  · exact Or.inl ⟨_, _, _, "ConeForms$Node", "b", "LConeForms$Node;", rfl, i_5, by decide, rfl, rfl, Or.inl rfl, Or.inl g_478⟩
  · exact Or.inl ⟨_, _, _, "ConeForms$Node", "b", "LConeForms$Node;", rfl, i_6, by decide, rfl, rfl, Or.inl rfl, Or.inl g_478⟩
  · exact Or.inl ⟨_, _, _, "ConeForms$Node", "b", "LConeForms$Node;", rfl, i_7, by decide, rfl, rfl, Or.inl rfl, Or.inl g_478⟩
  · exact Or.inl ⟨_, _, _, "ConeForms$Node", "b", "LConeForms$Node;", rfl, i_8, by decide, rfl, rfl, Or.inl rfl, Or.inl g_478⟩
theorem fo_110 : sd_FO "ConeForms$Node" 29 8516 := by
  intro ci h
  rcases (show ci = 5 ∨ ci = 6 ∨ ci = 7 ∨ ci = 8 by rcases am_g_of h with h | h <;> omega) with rfl | rfl | rfl | rfl
  · exact Or.inl ⟨_, _, _, "ConeForms$Node", "c", "LConeForms$Node;", rfl, i_5, by decide, rfl, rfl, Or.inl rfl, Or.inl g_486⟩
  · exact Or.inl ⟨_, _, _, "ConeForms$Node", "c", "LConeForms$Node;", rfl, i_6, by decide, rfl, rfl, Or.inl rfl, Or.inl g_486⟩
  · exact Or.inl ⟨_, _, _, "ConeForms$Node", "c", "LConeForms$Node;", rfl, i_7, by decide, rfl, rfl, Or.inl rfl, Or.inl g_486⟩
  · exact Or.inl ⟨_, _, _, "ConeForms$Node", "c", "LConeForms$Node;", rfl, i_8, by decide, rfl, rfl, Or.inl rfl, Or.inl g_486⟩
theorem fo_111 : sd_FO "ConeForms$Product" 41 329 := by
  intro ci h
  rcases (show ci = 5 ∨ ci = 6 ∨ ci = 7 ∨ ci = 8 by rcases am_g_of h with h | h <;> omega) with rfl | rfl | rfl | rfl
  · exact Or.inl ⟨_, _, _, "ConeForms$Node", "curvature", "I", rfl, i_5, by decide, rfl, rfl, Or.inl rfl, Or.inl g_519⟩
  · exact Or.inl ⟨_, _, _, "ConeForms$Node", "curvature", "I", rfl, i_6, by decide, rfl, rfl, Or.inl rfl, Or.inl g_519⟩
  · exact Or.inl ⟨_, _, _, "ConeForms$Node", "curvature", "I", rfl, i_7, by decide, rfl, rfl, Or.inl rfl, Or.inl g_519⟩
  · exact Or.inl ⟨_, _, _, "ConeForms$Node", "curvature", "I", rfl, i_8, by decide, rfl, rfl, Or.inl rfl, Or.inl g_519⟩
theorem fo_112 : sd_FO "ConeForms$Bend" 41 326 := by
  intro ci h
  rcases (show ci = 5 ∨ ci = 6 ∨ ci = 7 ∨ ci = 8 by rcases am_g_of h with h | h <;> omega) with rfl | rfl | rfl | rfl
  · exact Or.inl ⟨_, _, _, "ConeForms$Node", "value", "I", rfl, i_5, by decide, rfl, rfl, Or.inl rfl, Or.inl g_508⟩
  · exact Or.inl ⟨_, _, _, "ConeForms$Node", "value", "I", rfl, i_6, by decide, rfl, rfl, Or.inl rfl, Or.inl g_508⟩
  · exact Or.inl ⟨_, _, _, "ConeForms$Node", "value", "I", rfl, i_7, by decide, rfl, rfl, Or.inl rfl, Or.inl g_508⟩
  · exact Or.inl ⟨_, _, _, "ConeForms$Node", "value", "I", rfl, i_8, by decide, rfl, rfl, Or.inl rfl, Or.inl g_508⟩
theorem fo_113 : sd_FO "ConeForms$Leaf" 15 326 := by
  intro ci h
  rcases (show ci = 5 ∨ ci = 6 ∨ ci = 7 ∨ ci = 8 by rcases am_g_of h with h | h <;> omega) with rfl | rfl | rfl | rfl
  · exact Or.inl ⟨_, _, _, "ConeForms$Leaf", "value", "I", rfl, i_5, by decide, rfl, rfl, Or.inr g_504, Or.inl g_503⟩
  · exact Or.inl ⟨_, _, _, "ConeForms$Leaf", "value", "I", rfl, i_6, by decide, rfl, rfl, Or.inr g_504, Or.inl g_503⟩
  · exact Or.inl ⟨_, _, _, "ConeForms$Leaf", "value", "I", rfl, i_7, by decide, rfl, rfl, Or.inr g_504, Or.inl g_503⟩
  · exact Or.inl ⟨_, _, _, "ConeForms$Leaf", "value", "I", rfl, i_8, by decide, rfl, rfl, Or.inr g_504, Or.inl g_503⟩
theorem fo_114 : sd_FO "ConeForms$Linear" 29 326 := by
  intro ci h
  rcases (show ci = 5 ∨ ci = 6 ∨ ci = 7 ∨ ci = 8 by rcases am_g_of h with h | h <;> omega) with rfl | rfl | rfl | rfl
  · exact Or.inl ⟨_, _, _, "ConeForms$Node", "value", "I", rfl, i_5, by decide, rfl, rfl, Or.inl rfl, Or.inl g_507⟩
  · exact Or.inl ⟨_, _, _, "ConeForms$Node", "value", "I", rfl, i_6, by decide, rfl, rfl, Or.inl rfl, Or.inl g_507⟩
  · exact Or.inl ⟨_, _, _, "ConeForms$Node", "value", "I", rfl, i_7, by decide, rfl, rfl, Or.inl rfl, Or.inl g_507⟩
  · exact Or.inl ⟨_, _, _, "ConeForms$Node", "value", "I", rfl, i_8, by decide, rfl, rfl, Or.inl rfl, Or.inl g_507⟩
theorem fo_115 : sd_FO "ConeForms$Product" 28 326 := by
  intro ci h
  rcases (show ci = 5 ∨ ci = 6 ∨ ci = 7 ∨ ci = 8 by rcases am_g_of h with h | h <;> omega) with rfl | rfl | rfl | rfl
  · exact Or.inl ⟨_, _, _, "ConeForms$Node", "value", "I", rfl, i_5, by decide, rfl, rfl, Or.inl rfl, Or.inl g_506⟩
  · exact Or.inl ⟨_, _, _, "ConeForms$Node", "value", "I", rfl, i_6, by decide, rfl, rfl, Or.inl rfl, Or.inl g_506⟩
  · exact Or.inl ⟨_, _, _, "ConeForms$Node", "value", "I", rfl, i_7, by decide, rfl, rfl, Or.inl rfl, Or.inl g_506⟩
  · exact Or.inl ⟨_, _, _, "ConeForms$Node", "value", "I", rfl, i_8, by decide, rfl, rfl, Or.inl rfl, Or.inl g_506⟩
theorem fo_116 : sd_FO "java/util/ArrayList" 63 130 := by
  intro ci h
  have hc : ci = 2 := by rcases am_g_of h with h | h <;> omega
  subst hc
  exact Or.inl ⟨_, _, _, "java/util/ArrayList", "modCount", "I", rfl, i_2, by decide, rfl, rfl, Or.inr g_130, Or.inl g_131⟩
theorem fp_117 : sd_FP "java/util/ArrayList" "add" 63 130 := by
  intro ci h
  have hc : ci = 2 := by rcases am_g_of h with h | h <;> omega
  subst hc
  exact ⟨_, _, _, "java/util/ArrayList", "modCount", "I", _, t_2, rfl, i_2, t_2_ok, n_2, by decide, rfl, rfl, Or.inr g_130, Or.inl ⟨g_131, Or.inl rfl⟩, t_2_ok 2 (by decide), Or.inl ⟨rfl, rfl⟩⟩
theorem fp_118 : sd_FP "java/util/ArrayList" "add" 48 129 := by
  intro ci h
  have hc : ci = 2 := by rcases am_g_of h with h | h <;> omega
  subst hc
  exact ⟨_, _, _, "java/util/ArrayList", "size", "I", _, t_2, rfl, i_2, t_2_ok, n_2, by decide, rfl, rfl, Or.inl rfl, Or.inl ⟨g_127, Or.inl rfl⟩, t_2_ok 1 (by decide), Or.inl ⟨rfl, rfl⟩⟩
theorem fp_119 : sd_FP "java/util/ArrayList" "grow" 9 8320 := by
  intro ci h
  have hc : ci = 2 := by rcases am_g_of h with h | h <;> omega
  subst hc
  exact ⟨_, _, _, "java/util/ArrayList", "elementData", "[Ljava/lang/Object;", _, t_2, rfl, i_2, t_2_ok, n_2, by decide, rfl, rfl, Or.inl rfl, Or.inl ⟨g_124, Or.inl rfl⟩, t_2_ok 0 (by decide), Or.inr (Or.inr (Or.inl ⟨rfl, Or.inr ⟨_, rfl⟩⟩))⟩
theorem fp_120 : sd_FP "java/util/ArrayList" "fastRemove" 63 130 := by
  intro ci h
  have hc : ci = 2 := by rcases am_g_of h with h | h <;> omega
  subst hc
  exact ⟨_, _, _, "java/util/ArrayList", "modCount", "I", _, t_2, rfl, i_2, t_2_ok, n_2, by decide, rfl, rfl, Or.inr g_130, Or.inl ⟨g_131, Or.inl rfl⟩, t_2_ok 2 (by decide), Or.inl ⟨rfl, rfl⟩⟩
theorem fp_121 : sd_FP "java/util/ArrayList" "fastRemove" 48 129 := by
  intro ci h
  have hc : ci = 2 := by rcases am_g_of h with h | h <;> omega
  subst hc
  exact ⟨_, _, _, "java/util/ArrayList", "size", "I", _, t_2, rfl, i_2, t_2_ok, n_2, by decide, rfl, rfl, Or.inl rfl, Or.inl ⟨g_127, Or.inl rfl⟩, t_2_ok 1 (by decide), Or.inl ⟨rfl, rfl⟩⟩
theorem fo_122 : sd_FO "ConeForms" 177 328 := by
  intro ci h
  rcases (show ci = 5 ∨ ci = 6 ∨ ci = 7 ∨ ci = 8 by rcases am_g_of h with h | h <;> omega) with rfl | rfl | rfl | rfl
  · exact Or.inl ⟨_, _, _, "ConeForms$Node", "signs", "I", rfl, i_5, by decide, rfl, rfl, Or.inl rfl, Or.inl g_518⟩
  · exact Or.inl ⟨_, _, _, "ConeForms$Node", "signs", "I", rfl, i_6, by decide, rfl, rfl, Or.inl rfl, Or.inl g_518⟩
  · exact Or.inl ⟨_, _, _, "ConeForms$Node", "signs", "I", rfl, i_7, by decide, rfl, rfl, Or.inl rfl, Or.inl g_518⟩
  · exact Or.inl ⟨_, _, _, "ConeForms$Node", "signs", "I", rfl, i_8, by decide, rfl, rfl, Or.inl rfl, Or.inl g_518⟩
theorem fo_123 : sd_FO "ConeForms" 197 329 := by
  intro ci h
  rcases (show ci = 5 ∨ ci = 6 ∨ ci = 7 ∨ ci = 8 by rcases am_g_of h with h | h <;> omega) with rfl | rfl | rfl | rfl
  · exact Or.inl ⟨_, _, _, "ConeForms$Node", "curvature", "I", rfl, i_5, by decide, rfl, rfl, Or.inl rfl, Or.inl g_521⟩
  · exact Or.inl ⟨_, _, _, "ConeForms$Node", "curvature", "I", rfl, i_6, by decide, rfl, rfl, Or.inl rfl, Or.inl g_521⟩
  · exact Or.inl ⟨_, _, _, "ConeForms$Node", "curvature", "I", rfl, i_7, by decide, rfl, rfl, Or.inl rfl, Or.inl g_521⟩
  · exact Or.inl ⟨_, _, _, "ConeForms$Node", "curvature", "I", rfl, i_8, by decide, rfl, rfl, Or.inl rfl, Or.inl g_521⟩
theorem fo_124 : sd_FO "ConeForms" 200 330 := by
  intro ci h
  rcases (show ci = 5 ∨ ci = 6 ∨ ci = 7 ∨ ci = 8 by rcases am_g_of h with h | h <;> omega) with rfl | rfl | rfl | rfl
  · exact Or.inl ⟨_, _, _, "ConeForms$Node", "blame", "I", rfl, i_5, by decide, rfl, rfl, Or.inl rfl, Or.inl g_523⟩
  · exact Or.inl ⟨_, _, _, "ConeForms$Node", "blame", "I", rfl, i_6, by decide, rfl, rfl, Or.inl rfl, Or.inl g_523⟩
  · exact Or.inl ⟨_, _, _, "ConeForms$Node", "blame", "I", rfl, i_7, by decide, rfl, rfl, Or.inl rfl, Or.inl g_523⟩
  · exact Or.inl ⟨_, _, _, "ConeForms$Node", "blame", "I", rfl, i_8, by decide, rfl, rfl, Or.inl rfl, Or.inl g_523⟩
theorem fo_125 : sd_FO "ConeForms" 171 327 := by
  intro ci h
  rcases (show ci = 5 ∨ ci = 6 ∨ ci = 7 ∨ ci = 8 by rcases am_g_of h with h | h <;> omega) with rfl | rfl | rfl | rfl
  · exact Or.inl ⟨_, _, _, "ConeForms$Node", "reach", "I", rfl, i_5, by decide, rfl, rfl, Or.inl rfl, Or.inl g_514⟩
  · exact Or.inl ⟨_, _, _, "ConeForms$Node", "reach", "I", rfl, i_6, by decide, rfl, rfl, Or.inl rfl, Or.inl g_514⟩
  · exact Or.inl ⟨_, _, _, "ConeForms$Node", "reach", "I", rfl, i_7, by decide, rfl, rfl, Or.inl rfl, Or.inl g_514⟩
  · exact Or.inl ⟨_, _, _, "ConeForms$Node", "reach", "I", rfl, i_8, by decide, rfl, rfl, Or.inl rfl, Or.inl g_514⟩
theorem fo_126 : sd_FO "ConeForms" 186 326 := by
  intro ci h
  rcases (show ci = 5 ∨ ci = 6 ∨ ci = 7 ∨ ci = 8 by rcases am_g_of h with h | h <;> omega) with rfl | rfl | rfl | rfl
  · exact Or.inl ⟨_, _, _, "ConeForms$Node", "value", "I", rfl, i_5, by decide, rfl, rfl, Or.inl rfl, Or.inl g_510⟩
  · exact Or.inl ⟨_, _, _, "ConeForms$Node", "value", "I", rfl, i_6, by decide, rfl, rfl, Or.inl rfl, Or.inl g_510⟩
  · exact Or.inl ⟨_, _, _, "ConeForms$Node", "value", "I", rfl, i_7, by decide, rfl, rfl, Or.inl rfl, Or.inl g_510⟩
  · exact Or.inl ⟨_, _, _, "ConeForms$Node", "value", "I", rfl, i_8, by decide, rfl, rfl, Or.inl rfl, Or.inl g_510⟩
theorem fo_127 : sd_FO "ConeForms" 203 331 := by
  intro ci h
  rcases (show ci = 5 ∨ ci = 6 ∨ ci = 7 ∨ ci = 8 by rcases am_g_of h with h | h <;> omega) with rfl | rfl | rfl | rfl
  · exact Or.inl ⟨_, _, _, "ConeForms$Node", "column", "I", rfl, i_5, by decide, rfl, rfl, Or.inl rfl, Or.inl g_525⟩
  · exact Or.inl ⟨_, _, _, "ConeForms$Node", "column", "I", rfl, i_6, by decide, rfl, rfl, Or.inl rfl, Or.inl g_525⟩
  · exact Or.inl ⟨_, _, _, "ConeForms$Node", "column", "I", rfl, i_7, by decide, rfl, rfl, Or.inl rfl, Or.inl g_525⟩
  · exact Or.inl ⟨_, _, _, "ConeForms$Node", "column", "I", rfl, i_8, by decide, rfl, rfl, Or.inl rfl, Or.inl g_525⟩
theorem fp_128 : sd_FP "ConeForms" "set" 211 398 := by
  intro ci h
  have hc : ci = 6 := by rcases am_g_of h with h | h <;> omega
  subst hc
  exact ⟨_, _, _, "ConeForms$Bend", "own", "I", _, t_6, rfl, i_6, t_6_ok, n_6, by decide, rfl, rfl, Or.inl rfl, Or.inl ⟨g_565, Or.inl rfl⟩, t_6_ok 14 (by decide), Or.inl ⟨rfl, rfl⟩⟩
theorem fp_129 : sd_FP "ConeForms" "set" 186 326 := by
  intro ci h
  rcases (show ci = 5 ∨ ci = 6 ∨ ci = 7 ∨ ci = 8 by rcases am_g_of h with h | h <;> omega) with rfl | rfl | rfl | rfl
  · exact ⟨_, _, _, "ConeForms$Node", "value", "I", _, t_5, rfl, i_5, t_5_ok, n_5, by decide, rfl, rfl, Or.inl rfl, Or.inl ⟨g_510, Or.inl rfl⟩, t_5_ok 6 (by decide), Or.inl ⟨rfl, rfl⟩⟩
  · exact ⟨_, _, _, "ConeForms$Node", "value", "I", _, t_6, rfl, i_6, t_6_ok, n_6, by decide, rfl, rfl, Or.inl rfl, Or.inl ⟨g_510, Or.inl rfl⟩, t_6_ok 6 (by decide), Or.inl ⟨rfl, rfl⟩⟩
  · exact ⟨_, _, _, "ConeForms$Node", "value", "I", _, t_7, rfl, i_7, t_7_ok, n_7, by decide, rfl, rfl, Or.inl rfl, Or.inl ⟨g_510, Or.inl rfl⟩, t_7_ok 6 (by decide), Or.inl ⟨rfl, rfl⟩⟩
  · exact ⟨_, _, _, "ConeForms$Node", "value", "I", _, t_8, rfl, i_8, t_8_ok, n_8, by decide, rfl, rfl, Or.inl rfl, Or.inl ⟨g_510, Or.inl rfl⟩, t_8_ok 6 (by decide), Or.inl ⟨rfl, rfl⟩⟩
theorem fo_130 : sd_FO "ConeForms" 220 4362 := by
  intro ci h
  have hc : ci = 4 := by rcases am_g_of h with h | h <;> omega
  subst hc
  exact Or.inl ⟨_, _, _, "ConeForms", "stands", "Z", rfl, i_4, by decide, rfl, rfl, Or.inl rfl, Or.inl g_166⟩
theorem fo_131 : sd_FO "ConeForms" 240 4428 := by
  intro ci h
  rcases (show ci = 5 ∨ ci = 6 ∨ ci = 7 ∨ ci = 8 by rcases am_g_of h with h | h <;> omega) with rfl | rfl | rfl | rfl
  · exact Or.inl ⟨_, _, _, "ConeForms$Node", "used", "Z", rfl, i_5, by decide, rfl, rfl, Or.inl rfl, Or.inl g_526⟩
  · exact Or.inl ⟨_, _, _, "ConeForms$Node", "used", "Z", rfl, i_6, by decide, rfl, rfl, Or.inl rfl, Or.inl g_526⟩
  · exact Or.inl ⟨_, _, _, "ConeForms$Node", "used", "Z", rfl, i_7, by decide, rfl, rfl, Or.inl rfl, Or.inl g_526⟩
  · exact Or.inl ⟨_, _, _, "ConeForms$Node", "used", "Z", rfl, i_8, by decide, rfl, rfl, Or.inl rfl, Or.inl g_526⟩
theorem fo_132 : sd_FO "ConeForms" 46 8460 := by
  intro ci h
  have hc : ci = 4 := by rcases am_g_of h with h | h <;> omega
  subst hc
  exact Or.inl ⟨_, _, _, "ConeForms", "expansions", "LConeForms$Table;", rfl, i_4, by decide, rfl, rfl, Or.inl rfl, Or.inl g_168⟩
theorem fo_133 : sd_FO "ConeForms" 50 8461 := by
  intro ci h
  have hc : ci = 4 := by rcases am_g_of h with h | h <;> omega
  subst hc
  exact Or.inl ⟨_, _, _, "ConeForms", "table", "LConeForms$Table;", rfl, i_4, by decide, rfl, rfl, Or.inl rfl, Or.inl g_169⟩
theorem fo_134 : sd_FO "ConeForms" 243 8454 := by
  intro ci h
  have hc : ci = 4 := by rcases am_g_of h with h | h <;> omega
  subst hc
  exact Or.inl ⟨_, _, _, "ConeForms", "goal", "LConeForms$Node;", rfl, i_4, by decide, rfl, rfl, Or.inl rfl, Or.inl g_162⟩
theorem fo_135 : sd_FO "ConeForms" 246 4359 := by
  intro ci h
  have hc : ci = 4 := by rcases am_g_of h with h | h <;> omega
  subst hc
  exact Or.inl ⟨_, _, _, "ConeForms", "toLeast", "Z", rfl, i_4, by decide, rfl, rfl, Or.inl rfl, Or.inl g_163⟩
theorem fp_136 : sd_FP "ConeForms" "fill" 289 272 := by
  intro ci h
  have hc : ci = 4 := by rcases am_g_of h with h | h <;> omega
  subst hc
  exact ⟨_, _, _, "ConeForms", "allRows", "I", _, t_4, rfl, i_4, t_4_ok, n_4, by decide, rfl, rfl, Or.inl rfl, Or.inl ⟨g_172, Or.inl rfl⟩, t_4_ok 16 (by decide), Or.inl ⟨rfl, rfl⟩⟩
theorem fo_137 : sd_FO "ConeForms" 260 8456 := by
  intro ci h
  have hc : ci = 4 := by rcases am_g_of h with h | h <;> omega
  subst hc
  exact Or.inl ⟨_, _, _, "ConeForms", "head", "LConeForms$Requirement;", rfl, i_4, by decide, rfl, rfl, Or.inl rfl, Or.inl g_164⟩
theorem fo_138 : sd_FO "ConeForms" 271 4672 := by
  intro ci h
  have hc : ci = 9 := by rcases am_g_of h with h | h <;> omega
  subst hc
  exact Or.inl ⟨_, _, _, "ConeForms$Requirement", "same", "Z", rfl, i_9, by decide, rfl, rfl, Or.inl rfl, Or.inl g_927⟩
theorem fo_139 : sd_FO "ConeForms" 270 8769 := by
  intro ci h
  have hc : ci = 9 := by rcases am_g_of h with h | h <;> omega
  subst hc
  exact Or.inl ⟨_, _, _, "ConeForms$Requirement", "a", "LConeForms$Node;", rfl, i_9, by decide, rfl, rfl, Or.inl rfl, Or.inl g_929⟩
theorem fo_140 : sd_FO "ConeForms" 274 8770 := by
  intro ci h
  have hc : ci = 9 := by rcases am_g_of h with h | h <;> omega
  subst hc
  exact Or.inl ⟨_, _, _, "ConeForms$Requirement", "b", "LConeForms$Node;", rfl, i_9, by decide, rfl, rfl, Or.inl rfl, Or.inl g_931⟩
theorem fo_141 : sd_FO "ConeForms" 264 8771 := by
  intro ci h
  have hc : ci = 9 := by rcases am_g_of h with h | h <;> omega
  subst hc
  exact Or.inl ⟨_, _, _, "ConeForms$Requirement", "next", "LConeForms$Requirement;", rfl, i_9, by decide, rfl, rfl, Or.inl rfl, Or.inl g_932⟩
theorem fo_142 : sd_FO "ConeForms" 289 272 := by
  intro ci h
  have hc : ci = 4 := by rcases am_g_of h with h | h <;> omega
  subst hc
  exact Or.inl ⟨_, _, _, "ConeForms", "allRows", "I", rfl, i_4, by decide, rfl, rfl, Or.inl rfl, Or.inl g_172⟩
theorem fp_143 : sd_FP "ConeForms" "fill" 308 270 := by
  intro ci h
  have hc : ci = 4 := by rcases am_g_of h with h | h <;> omega
  subst hc
  exact ⟨_, _, _, "ConeForms", "zeroRows", "I", _, t_4, rfl, i_4, t_4_ok, n_4, by decide, rfl, rfl, Or.inl rfl, Or.inl ⟨g_170, Or.inl rfl⟩, t_4_ok 14 (by decide), Or.inl ⟨rfl, rfl⟩⟩
theorem fo_144 : sd_FO "ConeForms" 38 8459 := by
  intro ci h
  have hc : ci = 4 := by rcases am_g_of h with h | h <;> omega
  subst hc
  exact Or.inl ⟨_, _, _, "ConeForms", "columns", "Ljava/util/ArrayList;", rfl, i_4, by decide, rfl, rfl, Or.inl rfl, Or.inl g_167⟩
theorem fo_145 : sd_FO "ConeForms" 308 270 := by
  intro ci h
  have hc : ci = 4 := by rcases am_g_of h with h | h <;> omega
  subst hc
  exact Or.inl ⟨_, _, _, "ConeForms", "zeroRows", "I", rfl, i_4, by decide, rfl, rfl, Or.inl rfl, Or.inl g_170⟩
theorem fp_146 : sd_FP "ConeForms" "fill" 314 271 := by
  intro ci h
  have hc : ci = 4 := by rcases am_g_of h with h | h <;> omega
  subst hc
  exact ⟨_, _, _, "ConeForms", "plainRows", "I", _, t_4, rfl, i_4, t_4_ok, n_4, by decide, rfl, rfl, Or.inl rfl, Or.inl ⟨g_171, Or.inl rfl⟩, t_4_ok 15 (by decide), Or.inl ⟨rfl, rfl⟩⟩
theorem fo_147 : sd_FO "ConeForms$Node" 65 325 := by
  intro ci h
  rcases (show ci = 5 ∨ ci = 6 ∨ ci = 7 ∨ ci = 8 by rcases am_g_of h with h | h <;> omega) with rfl | rfl | rfl | rfl
  · exact Or.inl ⟨_, _, _, "ConeForms$Node", "index", "I", rfl, i_5, by decide, rfl, rfl, Or.inl rfl, Or.inl g_502⟩
  · exact Or.inl ⟨_, _, _, "ConeForms$Node", "index", "I", rfl, i_6, by decide, rfl, rfl, Or.inl rfl, Or.inl g_502⟩
  · exact Or.inl ⟨_, _, _, "ConeForms$Node", "index", "I", rfl, i_7, by decide, rfl, rfl, Or.inl rfl, Or.inl g_502⟩
  · exact Or.inl ⟨_, _, _, "ConeForms$Node", "index", "I", rfl, i_8, by decide, rfl, rfl, Or.inl rfl, Or.inl g_502⟩
theorem fo_148 : sd_FO "ConeForms$Node" 74 8385 := by
  intro ci h
  have hc : ci = 3 := by rcases am_g_of h with h | h <;> omega
  subst hc
  exact Or.inl ⟨_, _, _, "ConeForms$Table", "constants", "[I", rfl, i_3, by decide, rfl, rfl, Or.inl rfl, Or.inr ⟨_, k_n149⟩⟩
theorem fo_149 : sd_FO "ConeForms$Node" 32 326 := by
  intro ci h
  rcases (show ci = 5 ∨ ci = 6 ∨ ci = 7 ∨ ci = 8 by rcases am_g_of h with h | h <;> omega) with rfl | rfl | rfl | rfl
  · exact Or.inl ⟨_, _, _, "ConeForms$Node", "value", "I", rfl, i_5, by decide, rfl, rfl, Or.inl rfl, Or.inl g_509⟩
  · exact Or.inl ⟨_, _, _, "ConeForms$Node", "value", "I", rfl, i_6, by decide, rfl, rfl, Or.inl rfl, Or.inl g_509⟩
  · exact Or.inl ⟨_, _, _, "ConeForms$Node", "value", "I", rfl, i_7, by decide, rfl, rfl, Or.inl rfl, Or.inl g_509⟩
  · exact Or.inl ⟨_, _, _, "ConeForms$Node", "value", "I", rfl, i_8, by decide, rfl, rfl, Or.inl rfl, Or.inl g_509⟩
theorem fo_150 : sd_FO "ConeForms$Table" 9 8384 := by
  intro ci h
  have hc : ci = 3 := by rcases am_g_of h with h | h <;> omega
  subst hc
  exact Or.inl ⟨_, _, _, "ConeForms$Table", "numbers", "[I", rfl, i_3, by decide, rfl, rfl, Or.inl rfl, Or.inl g_147⟩
theorem fo_151 : sd_FO "ConeForms$Table" 15 8385 := by
  intro ci h
  have hc : ci = 3 := by rcases am_g_of h with h | h <;> omega
  subst hc
  exact Or.inl ⟨_, _, _, "ConeForms$Table", "constants", "[I", rfl, i_3, by decide, rfl, rfl, Or.inl rfl, Or.inl g_148⟩
theorem fo_152 : sd_FO "ConeForms$Bend" 63 325 := by
  intro ci h
  rcases (show ci = 5 ∨ ci = 6 ∨ ci = 7 ∨ ci = 8 by rcases am_g_of h with h | h <;> omega) with rfl | rfl | rfl | rfl
  · exact Or.inl ⟨_, _, _, "ConeForms$Bend", "index", "I", rfl, i_5, by decide, rfl, rfl, Or.inr g_491, Or.inl g_490⟩
  · exact Or.inl ⟨_, _, _, "ConeForms$Bend", "index", "I", rfl, i_6, by decide, rfl, rfl, Or.inr g_491, Or.inl g_490⟩
  · exact Or.inl ⟨_, _, _, "ConeForms$Bend", "index", "I", rfl, i_7, by decide, rfl, rfl, Or.inr g_491, Or.inl g_490⟩
  · exact Or.inl ⟨_, _, _, "ConeForms$Bend", "index", "I", rfl, i_8, by decide, rfl, rfl, Or.inr g_491, Or.inl g_490⟩
theorem fo_153 : sd_FO "ConeForms$Leaf" 40 325 := by
  intro ci h
  rcases (show ci = 5 ∨ ci = 6 ∨ ci = 7 ∨ ci = 8 by rcases am_g_of h with h | h <;> omega) with rfl | rfl | rfl | rfl
  · exact Or.inl ⟨_, _, _, "ConeForms$Leaf", "index", "I", rfl, i_5, by decide, rfl, rfl, Or.inr g_493, Or.inl g_492⟩
  · exact Or.inl ⟨_, _, _, "ConeForms$Leaf", "index", "I", rfl, i_6, by decide, rfl, rfl, Or.inr g_493, Or.inl g_492⟩
  · exact Or.inl ⟨_, _, _, "ConeForms$Leaf", "index", "I", rfl, i_7, by decide, rfl, rfl, Or.inr g_493, Or.inl g_492⟩
  · exact Or.inl ⟨_, _, _, "ConeForms$Leaf", "index", "I", rfl, i_8, by decide, rfl, rfl, Or.inr g_493, Or.inl g_492⟩
theorem fo_154 : sd_FO "ConeForms$Linear" 47 325 := by
  intro ci h
  rcases (show ci = 5 ∨ ci = 6 ∨ ci = 7 ∨ ci = 8 by rcases am_g_of h with h | h <;> omega) with rfl | rfl | rfl | rfl
  · exact Or.inl ⟨_, _, _, "ConeForms$Linear", "index", "I", rfl, i_5, by decide, rfl, rfl, Or.inr g_495, Or.inl g_494⟩
  · exact Or.inl ⟨_, _, _, "ConeForms$Linear", "index", "I", rfl, i_6, by decide, rfl, rfl, Or.inr g_495, Or.inl g_494⟩
  · exact Or.inl ⟨_, _, _, "ConeForms$Linear", "index", "I", rfl, i_7, by decide, rfl, rfl, Or.inr g_495, Or.inl g_494⟩
  · exact Or.inl ⟨_, _, _, "ConeForms$Linear", "index", "I", rfl, i_8, by decide, rfl, rfl, Or.inr g_495, Or.inl g_494⟩
theorem fo_155 : sd_FO "ConeForms$Linear" 50 325 := by
  intro ci h
  rcases (show ci = 5 ∨ ci = 6 ∨ ci = 7 ∨ ci = 8 by rcases am_g_of h with h | h <;> omega) with rfl | rfl | rfl | rfl
  · exact Or.inl ⟨_, _, _, "ConeForms$Node", "index", "I", rfl, i_5, by decide, rfl, rfl, Or.inl rfl, Or.inl g_496⟩
  · exact Or.inl ⟨_, _, _, "ConeForms$Node", "index", "I", rfl, i_6, by decide, rfl, rfl, Or.inl rfl, Or.inl g_496⟩
  · exact Or.inl ⟨_, _, _, "ConeForms$Node", "index", "I", rfl, i_7, by decide, rfl, rfl, Or.inl rfl, Or.inl g_496⟩
  · exact Or.inl ⟨_, _, _, "ConeForms$Node", "index", "I", rfl, i_8, by decide, rfl, rfl, Or.inl rfl, Or.inl g_496⟩
theorem fo_156 : sd_FO "ConeForms$Product" 44 325 := by
  intro ci h
  rcases (show ci = 5 ∨ ci = 6 ∨ ci = 7 ∨ ci = 8 by rcases am_g_of h with h | h <;> omega) with rfl | rfl | rfl | rfl
  · exact Or.inl ⟨_, _, _, "ConeForms$Product", "index", "I", rfl, i_5, by decide, rfl, rfl, Or.inr g_499, Or.inl g_498⟩
  · exact Or.inl ⟨_, _, _, "ConeForms$Product", "index", "I", rfl, i_6, by decide, rfl, rfl, Or.inr g_499, Or.inl g_498⟩
  · exact Or.inl ⟨_, _, _, "ConeForms$Product", "index", "I", rfl, i_7, by decide, rfl, rfl, Or.inr g_499, Or.inl g_498⟩
  · exact Or.inl ⟨_, _, _, "ConeForms$Product", "index", "I", rfl, i_8, by decide, rfl, rfl, Or.inr g_499, Or.inl g_498⟩
theorem fo_157 : sd_FO "ConeForms$Product" 47 325 := by
  intro ci h
  rcases (show ci = 5 ∨ ci = 6 ∨ ci = 7 ∨ ci = 8 by rcases am_g_of h with h | h <;> omega) with rfl | rfl | rfl | rfl
  · exact Or.inl ⟨_, _, _, "ConeForms$Node", "index", "I", rfl, i_5, by decide, rfl, rfl, Or.inl rfl, Or.inl g_500⟩
  · exact Or.inl ⟨_, _, _, "ConeForms$Node", "index", "I", rfl, i_6, by decide, rfl, rfl, Or.inl rfl, Or.inl g_500⟩
  · exact Or.inl ⟨_, _, _, "ConeForms$Node", "index", "I", rfl, i_7, by decide, rfl, rfl, Or.inl rfl, Or.inl g_500⟩
  · exact Or.inl ⟨_, _, _, "ConeForms$Node", "index", "I", rfl, i_8, by decide, rfl, rfl, Or.inl rfl, Or.inl g_500⟩
theorem fo_158 : sd_FO "ConeForms" 294 8385 := by
  intro ci h
  have hc : ci = 3 := by rcases am_g_of h with h | h <;> omega
  subst hc
  exact Or.inl ⟨_, _, _, "ConeForms$Table", "constants", "[I", rfl, i_3, by decide, rfl, rfl, Or.inl rfl, Or.inr ⟨_, k_n150⟩⟩
theorem fp_159 : sd_FP "ConeForms" "row" 289 272 := by
  intro ci h
  have hc : ci = 4 := by rcases am_g_of h with h | h <;> omega
  subst hc
  exact ⟨_, _, _, "ConeForms", "allRows", "I", _, t_4, rfl, i_4, t_4_ok, n_4, by decide, rfl, rfl, Or.inl rfl, Or.inl ⟨g_172, Or.inl rfl⟩, t_4_ok 16 (by decide), Or.inl ⟨rfl, rfl⟩⟩
theorem fp_160 : sd_FP "ConeForms" "culpritOf" 226 4429 := by
  intro ci h
  rcases (show ci = 5 ∨ ci = 6 ∨ ci = 7 ∨ ci = 8 by rcases am_g_of h with h | h <;> omega) with rfl | rfl | rfl | rfl
  · exact ⟨_, _, _, "ConeForms$Node", "seen", "Z", _, t_5, rfl, i_5, t_5_ok, n_5, by decide, rfl, rfl, Or.inl rfl, Or.inl ⟨g_527, Or.inl rfl⟩, t_5_ok 13 (by decide), Or.inr (Or.inl ⟨rfl, rfl⟩)⟩
  · exact ⟨_, _, _, "ConeForms$Node", "seen", "Z", _, t_6, rfl, i_6, t_6_ok, n_6, by decide, rfl, rfl, Or.inl rfl, Or.inl ⟨g_527, Or.inl rfl⟩, t_6_ok 13 (by decide), Or.inr (Or.inl ⟨rfl, rfl⟩)⟩
  · exact ⟨_, _, _, "ConeForms$Node", "seen", "Z", _, t_7, rfl, i_7, t_7_ok, n_7, by decide, rfl, rfl, Or.inl rfl, Or.inl ⟨g_527, Or.inl rfl⟩, t_7_ok 13 (by decide), Or.inr (Or.inl ⟨rfl, rfl⟩)⟩
  · exact ⟨_, _, _, "ConeForms$Node", "seen", "Z", _, t_8, rfl, i_8, t_8_ok, n_8, by decide, rfl, rfl, Or.inl rfl, Or.inl ⟨g_527, Or.inl rfl⟩, t_8_ok 13 (by decide), Or.inr (Or.inl ⟨rfl, rfl⟩)⟩
theorem fo_161 : sd_FO "ConeForms" 226 4429 := by
  intro ci h
  rcases (show ci = 5 ∨ ci = 6 ∨ ci = 7 ∨ ci = 8 by rcases am_g_of h with h | h <;> omega) with rfl | rfl | rfl | rfl
  · exact Or.inl ⟨_, _, _, "ConeForms$Node", "seen", "Z", rfl, i_5, by decide, rfl, rfl, Or.inl rfl, Or.inl g_527⟩
  · exact Or.inl ⟨_, _, _, "ConeForms$Node", "seen", "Z", rfl, i_6, by decide, rfl, rfl, Or.inl rfl, Or.inl g_527⟩
  · exact Or.inl ⟨_, _, _, "ConeForms$Node", "seen", "Z", rfl, i_7, by decide, rfl, rfl, Or.inl rfl, Or.inl g_527⟩
  · exact Or.inl ⟨_, _, _, "ConeForms$Node", "seen", "Z", rfl, i_8, by decide, rfl, rfl, Or.inl rfl, Or.inl g_527⟩
theorem fp_162 : sd_FP "ConeForms" "offender" 226 4429 := by
  intro ci h
  rcases (show ci = 5 ∨ ci = 6 ∨ ci = 7 ∨ ci = 8 by rcases am_g_of h with h | h <;> omega) with rfl | rfl | rfl | rfl
  · exact ⟨_, _, _, "ConeForms$Node", "seen", "Z", _, t_5, rfl, i_5, t_5_ok, n_5, by decide, rfl, rfl, Or.inl rfl, Or.inl ⟨g_527, Or.inl rfl⟩, t_5_ok 13 (by decide), Or.inr (Or.inl ⟨rfl, rfl⟩)⟩
  · exact ⟨_, _, _, "ConeForms$Node", "seen", "Z", _, t_6, rfl, i_6, t_6_ok, n_6, by decide, rfl, rfl, Or.inl rfl, Or.inl ⟨g_527, Or.inl rfl⟩, t_6_ok 13 (by decide), Or.inr (Or.inl ⟨rfl, rfl⟩)⟩
  · exact ⟨_, _, _, "ConeForms$Node", "seen", "Z", _, t_7, rfl, i_7, t_7_ok, n_7, by decide, rfl, rfl, Or.inl rfl, Or.inl ⟨g_527, Or.inl rfl⟩, t_7_ok 13 (by decide), Or.inr (Or.inl ⟨rfl, rfl⟩)⟩
  · exact ⟨_, _, _, "ConeForms$Node", "seen", "Z", _, t_8, rfl, i_8, t_8_ok, n_8, by decide, rfl, rfl, Or.inl rfl, Or.inl ⟨g_527, Or.inl rfl⟩, t_8_ok 13 (by decide), Or.inr (Or.inl ⟨rfl, rfl⟩)⟩
theorem fp_163 : sd_FP "ConeForms" "objective" 243 8454 := by
  intro ci h
  have hc : ci = 4 := by rcases am_g_of h with h | h <;> omega
  subst hc
  exact ⟨_, _, _, "ConeForms", "goal", "LConeForms$Node;", _, t_4, rfl, i_4, t_4_ok, n_4, by decide, rfl, rfl, Or.inl rfl, Or.inl ⟨g_162, Or.inl rfl⟩, t_4_ok 6 (by decide), Or.inr (Or.inr (Or.inl ⟨rfl, Or.inl ⟨_, rfl⟩⟩))⟩
theorem fp_164 : sd_FP "ConeForms" "objective" 246 4359 := by
  intro ci h
  have hc : ci = 4 := by rcases am_g_of h with h | h <;> omega
  subst hc
  exact ⟨_, _, _, "ConeForms", "toLeast", "Z", _, t_4, rfl, i_4, t_4_ok, n_4, by decide, rfl, rfl, Or.inl rfl, Or.inl ⟨g_163, Or.inl rfl⟩, t_4_ok 7 (by decide), Or.inr (Or.inl ⟨rfl, rfl⟩)⟩
theorem fp_165 : sd_FP "ConeForms" "drop" 220 4362 := by
  intro ci h
  have hc : ci = 4 := by rcases am_g_of h with h | h <;> omega
  subst hc
  exact ⟨_, _, _, "ConeForms", "stands", "Z", _, t_4, rfl, i_4, t_4_ok, n_4, by decide, rfl, rfl, Or.inl rfl, Or.inl ⟨g_166, Or.inl rfl⟩, t_4_ok 10 (by decide), Or.inr (Or.inl ⟨rfl, rfl⟩)⟩
theorem fp_166 : sd_FP "ConeForms" "drop" 240 4428 := by
  intro ci h
  rcases (show ci = 5 ∨ ci = 6 ∨ ci = 7 ∨ ci = 8 by rcases am_g_of h with h | h <;> omega) with rfl | rfl | rfl | rfl
  · exact ⟨_, _, _, "ConeForms$Node", "used", "Z", _, t_5, rfl, i_5, t_5_ok, n_5, by decide, rfl, rfl, Or.inl rfl, Or.inl ⟨g_526, Or.inl rfl⟩, t_5_ok 12 (by decide), Or.inr (Or.inl ⟨rfl, rfl⟩)⟩
  · exact ⟨_, _, _, "ConeForms$Node", "used", "Z", _, t_6, rfl, i_6, t_6_ok, n_6, by decide, rfl, rfl, Or.inl rfl, Or.inl ⟨g_526, Or.inl rfl⟩, t_6_ok 12 (by decide), Or.inr (Or.inl ⟨rfl, rfl⟩)⟩
  · exact ⟨_, _, _, "ConeForms$Node", "used", "Z", _, t_7, rfl, i_7, t_7_ok, n_7, by decide, rfl, rfl, Or.inl rfl, Or.inl ⟨g_526, Or.inl rfl⟩, t_7_ok 12 (by decide), Or.inr (Or.inl ⟨rfl, rfl⟩)⟩
  · exact ⟨_, _, _, "ConeForms$Node", "used", "Z", _, t_8, rfl, i_8, t_8_ok, n_8, by decide, rfl, rfl, Or.inl rfl, Or.inl ⟨g_526, Or.inl rfl⟩, t_8_ok 12 (by decide), Or.inr (Or.inl ⟨rfl, rfl⟩)⟩
theorem fp_167 : sd_FP "ConeForms" "drop" 203 331 := by
  intro ci h
  rcases (show ci = 5 ∨ ci = 6 ∨ ci = 7 ∨ ci = 8 by rcases am_g_of h with h | h <;> omega) with rfl | rfl | rfl | rfl
  · exact ⟨_, _, _, "ConeForms$Node", "column", "I", _, t_5, rfl, i_5, t_5_ok, n_5, by decide, rfl, rfl, Or.inl rfl, Or.inl ⟨g_525, Or.inl rfl⟩, t_5_ok 11 (by decide), Or.inl ⟨rfl, rfl⟩⟩
  · exact ⟨_, _, _, "ConeForms$Node", "column", "I", _, t_6, rfl, i_6, t_6_ok, n_6, by decide, rfl, rfl, Or.inl rfl, Or.inl ⟨g_525, Or.inl rfl⟩, t_6_ok 11 (by decide), Or.inl ⟨rfl, rfl⟩⟩
  · exact ⟨_, _, _, "ConeForms$Node", "column", "I", _, t_7, rfl, i_7, t_7_ok, n_7, by decide, rfl, rfl, Or.inl rfl, Or.inl ⟨g_525, Or.inl rfl⟩, t_7_ok 11 (by decide), Or.inl ⟨rfl, rfl⟩⟩
  · exact ⟨_, _, _, "ConeForms$Node", "column", "I", _, t_8, rfl, i_8, t_8_ok, n_8, by decide, rfl, rfl, Or.inl rfl, Or.inl ⟨g_525, Or.inl rfl⟩, t_8_ok 11 (by decide), Or.inl ⟨rfl, rfl⟩⟩
theorem fp_168 : sd_FP "java/util/ArrayList" "clear" 63 130 := by
  intro ci h
  have hc : ci = 2 := by rcases am_g_of h with h | h <;> omega
  subst hc
  exact ⟨_, _, _, "java/util/ArrayList", "modCount", "I", _, t_2, rfl, i_2, t_2_ok, n_2, by decide, rfl, rfl, Or.inr g_130, Or.inl ⟨g_131, Or.inl rfl⟩, t_2_ok 2 (by decide), Or.inl ⟨rfl, rfl⟩⟩
theorem fp_169 : sd_FP "java/util/ArrayList" "clear" 48 129 := by
  intro ci h
  have hc : ci = 2 := by rcases am_g_of h with h | h <;> omega
  subst hc
  exact ⟨_, _, _, "java/util/ArrayList", "size", "I", _, t_2, rfl, i_2, t_2_ok, n_2, by decide, rfl, rfl, Or.inl rfl, Or.inl ⟨g_127, Or.inl rfl⟩, t_2_ok 1 (by decide), Or.inl ⟨rfl, rfl⟩⟩
theorem fo_170 : sd_FO "ConeForms" 252 265 := by
  intro ci h
  have hc : ci = 4 := by rcases am_g_of h with h | h <;> omega
  subst hc
  exact Or.inl ⟨_, _, _, "ConeForms", "requirements", "I", rfl, i_4, by decide, rfl, rfl, Or.inl rfl, Or.inl g_165⟩
theorem fp_171 : sd_FP "ConeForms" "require" 260 8456 := by
  intro ci h
  have hc : ci = 4 := by rcases am_g_of h with h | h <;> omega
  subst hc
  exact ⟨_, _, _, "ConeForms", "head", "LConeForms$Requirement;", _, t_4, rfl, i_4, t_4_ok, n_4, by decide, rfl, rfl, Or.inl rfl, Or.inl ⟨g_164, Or.inl rfl⟩, t_4_ok 8 (by decide), Or.inr (Or.inr (Or.inl ⟨rfl, Or.inl ⟨_, rfl⟩⟩))⟩
theorem fp_172 : sd_FP "ConeForms" "require" 264 8771 := by
  intro ci h
  have hc : ci = 9 := by rcases am_g_of h with h | h <;> omega
  subst hc
  exact ⟨_, _, _, "ConeForms$Requirement", "next", "LConeForms$Requirement;", _, t_9, rfl, i_9, t_9_ok, n_9, by decide, rfl, rfl, Or.inl rfl, Or.inl ⟨g_932, Or.inl rfl⟩, t_9_ok 3 (by decide), Or.inr (Or.inr (Or.inl ⟨rfl, Or.inl ⟨_, rfl⟩⟩))⟩
theorem fp_173 : sd_FP "ConeForms" "require" 252 265 := by
  intro ci h
  have hc : ci = 4 := by rcases am_g_of h with h | h <;> omega
  subst hc
  exact ⟨_, _, _, "ConeForms", "requirements", "I", _, t_4, rfl, i_4, t_4_ok, n_4, by decide, rfl, rfl, Or.inl rfl, Or.inl ⟨g_165, Or.inl rfl⟩, t_4_ok 9 (by decide), Or.inl ⟨rfl, rfl⟩⟩
theorem fp_174 : sd_FP "ConeForms$Requirement" "<init>" 7 4672 := by
  intro ci h
  have hc : ci = 9 := by rcases am_g_of h with h | h <;> omega
  subst hc
  exact ⟨_, _, _, "ConeForms$Requirement", "same", "Z", _, t_9, rfl, i_9, t_9_ok, n_9, by decide, rfl, rfl, Or.inl rfl, Or.inl ⟨g_926, Or.inr ⟨rfl, rfl, rfl⟩⟩, t_9_ok 0 (by decide), Or.inr (Or.inl ⟨rfl, rfl⟩)⟩
theorem fp_175 : sd_FP "ConeForms$Requirement" "<init>" 13 8769 := by
  intro ci h
  have hc : ci = 9 := by rcases am_g_of h with h | h <;> omega
  subst hc
  exact ⟨_, _, _, "ConeForms$Requirement", "a", "LConeForms$Node;", _, t_9, rfl, i_9, t_9_ok, n_9, by decide, rfl, rfl, Or.inl rfl, Or.inl ⟨g_928, Or.inr ⟨rfl, rfl, rfl⟩⟩, t_9_ok 1 (by decide), Or.inr (Or.inr (Or.inl ⟨rfl, Or.inl ⟨_, rfl⟩⟩))⟩
theorem fp_176 : sd_FP "ConeForms$Requirement" "<init>" 17 8770 := by
  intro ci h
  have hc : ci = 9 := by rcases am_g_of h with h | h <;> omega
  subst hc
  exact ⟨_, _, _, "ConeForms$Requirement", "b", "LConeForms$Node;", _, t_9, rfl, i_9, t_9_ok, n_9, by decide, rfl, rfl, Or.inl rfl, Or.inl ⟨g_930, Or.inr ⟨rfl, rfl, rfl⟩⟩, t_9_ok 2 (by decide), Or.inr (Or.inr (Or.inl ⟨rfl, Or.inl ⟨_, rfl⟩⟩))⟩
theorem fp_177 : sd_FP "ConeForms" "withdraw" 260 8456 := by
  intro ci h
  have hc : ci = 4 := by rcases am_g_of h with h | h <;> omega
  subst hc
  exact ⟨_, _, _, "ConeForms", "head", "LConeForms$Requirement;", _, t_4, rfl, i_4, t_4_ok, n_4, by decide, rfl, rfl, Or.inl rfl, Or.inl ⟨g_164, Or.inl rfl⟩, t_4_ok 8 (by decide), Or.inr (Or.inr (Or.inl ⟨rfl, Or.inl ⟨_, rfl⟩⟩))⟩
theorem fp_178 : sd_FP "ConeForms" "withdraw" 264 8771 := by
  intro ci h
  have hc : ci = 9 := by rcases am_g_of h with h | h <;> omega
  subst hc
  exact ⟨_, _, _, "ConeForms$Requirement", "next", "LConeForms$Requirement;", _, t_9, rfl, i_9, t_9_ok, n_9, by decide, rfl, rfl, Or.inl rfl, Or.inl ⟨g_932, Or.inl rfl⟩, t_9_ok 3 (by decide), Or.inr (Or.inr (Or.inl ⟨rfl, Or.inl ⟨_, rfl⟩⟩))⟩
theorem fp_179 : sd_FP "ConeForms" "withdraw" 252 265 := by
  intro ci h
  have hc : ci = 4 := by rcases am_g_of h with h | h <;> omega
  subst hc
  exact ⟨_, _, _, "ConeForms", "requirements", "I", _, t_4, rfl, i_4, t_4_ok, n_4, by decide, rfl, rfl, Or.inl rfl, Or.inl ⟨g_165, Or.inl rfl⟩, t_4_ok 9 (by decide), Or.inl ⟨rfl, rfl⟩⟩
theorem fp_180 : sd_FP "ConeForms" "compile" 211 398 := by
  intro ci h
  have hc : ci = 6 := by rcases am_g_of h with h | h <;> omega
  subst hc
  exact ⟨_, _, _, "ConeForms$Bend", "own", "I", _, t_6, rfl, i_6, t_6_ok, n_6, by decide, rfl, rfl, Or.inl rfl, Or.inl ⟨g_565, Or.inl rfl⟩, t_6_ok 14 (by decide), Or.inl ⟨rfl, rfl⟩⟩
theorem fp_181 : sd_FP "ConeForms" "compile" 220 4362 := by
  intro ci h
  have hc : ci = 4 := by rcases am_g_of h with h | h <;> omega
  subst hc
  exact ⟨_, _, _, "ConeForms", "stands", "Z", _, t_4, rfl, i_4, t_4_ok, n_4, by decide, rfl, rfl, Or.inl rfl, Or.inl ⟨g_166, Or.inl rfl⟩, t_4_ok 10 (by decide), Or.inr (Or.inl ⟨rfl, rfl⟩)⟩
theorem fp_182 : sd_FP "ConeForms" "use" 240 4428 := by
  intro ci h
  rcases (show ci = 5 ∨ ci = 6 ∨ ci = 7 ∨ ci = 8 by rcases am_g_of h with h | h <;> omega) with rfl | rfl | rfl | rfl
  · exact ⟨_, _, _, "ConeForms$Node", "used", "Z", _, t_5, rfl, i_5, t_5_ok, n_5, by decide, rfl, rfl, Or.inl rfl, Or.inl ⟨g_526, Or.inl rfl⟩, t_5_ok 12 (by decide), Or.inr (Or.inl ⟨rfl, rfl⟩)⟩
  · exact ⟨_, _, _, "ConeForms$Node", "used", "Z", _, t_6, rfl, i_6, t_6_ok, n_6, by decide, rfl, rfl, Or.inl rfl, Or.inl ⟨g_526, Or.inl rfl⟩, t_6_ok 12 (by decide), Or.inr (Or.inl ⟨rfl, rfl⟩)⟩
  · exact ⟨_, _, _, "ConeForms$Node", "used", "Z", _, t_7, rfl, i_7, t_7_ok, n_7, by decide, rfl, rfl, Or.inl rfl, Or.inl ⟨g_526, Or.inl rfl⟩, t_7_ok 12 (by decide), Or.inr (Or.inl ⟨rfl, rfl⟩)⟩
  · exact ⟨_, _, _, "ConeForms$Node", "used", "Z", _, t_8, rfl, i_8, t_8_ok, n_8, by decide, rfl, rfl, Or.inl rfl, Or.inl ⟨g_526, Or.inl rfl⟩, t_8_ok 12 (by decide), Or.inr (Or.inl ⟨rfl, rfl⟩)⟩
theorem fp_183 : sd_FP "ConeForms" "number" 203 331 := by
  intro ci h
  rcases (show ci = 5 ∨ ci = 6 ∨ ci = 7 ∨ ci = 8 by rcases am_g_of h with h | h <;> omega) with rfl | rfl | rfl | rfl
  · exact ⟨_, _, _, "ConeForms$Node", "column", "I", _, t_5, rfl, i_5, t_5_ok, n_5, by decide, rfl, rfl, Or.inl rfl, Or.inl ⟨g_525, Or.inl rfl⟩, t_5_ok 11 (by decide), Or.inl ⟨rfl, rfl⟩⟩
  · exact ⟨_, _, _, "ConeForms$Node", "column", "I", _, t_6, rfl, i_6, t_6_ok, n_6, by decide, rfl, rfl, Or.inl rfl, Or.inl ⟨g_525, Or.inl rfl⟩, t_6_ok 11 (by decide), Or.inl ⟨rfl, rfl⟩⟩
  · exact ⟨_, _, _, "ConeForms$Node", "column", "I", _, t_7, rfl, i_7, t_7_ok, n_7, by decide, rfl, rfl, Or.inl rfl, Or.inl ⟨g_525, Or.inl rfl⟩, t_7_ok 11 (by decide), Or.inl ⟨rfl, rfl⟩⟩
  · exact ⟨_, _, _, "ConeForms$Node", "column", "I", _, t_8, rfl, i_8, t_8_ok, n_8, by decide, rfl, rfl, Or.inl rfl, Or.inl ⟨g_525, Or.inl rfl⟩, t_8_ok 11 (by decide), Or.inl ⟨rfl, rfl⟩⟩
theorem fo_184 : sd_FO "ConeForms" 314 271 := by
  intro ci h
  have hc : ci = 4 := by rcases am_g_of h with h | h <;> omega
  subst hc
  exact Or.inl ⟨_, _, _, "ConeForms", "plainRows", "I", rfl, i_4, by decide, rfl, rfl, Or.inl rfl, Or.inl g_171⟩
theorem fp_185 : sd_FP "ConeForms" "lift" 211 398 := by
  intro ci h
  have hc : ci = 6 := by rcases am_g_of h with h | h <;> omega
  subst hc
  exact ⟨_, _, _, "ConeForms$Bend", "own", "I", _, t_6, rfl, i_6, t_6_ok, n_6, by decide, rfl, rfl, Or.inl rfl, Or.inl ⟨g_565, Or.inl rfl⟩, t_6_ok 14 (by decide), Or.inl ⟨rfl, rfl⟩⟩
theorem fp_186 : sd_FP "java/util/ArrayList$Itr" "<init>" 1 8835 := by
  intro ci h
  have hc : ci = 10 := by rcases am_g_of h with h | h <;> omega
  subst hc
  exact ⟨_, _, _, "java/util/ArrayList$Itr", "this$0", "Ljava/util/ArrayList;", _, t_10, rfl, i_10, t_10_ok, n_10, by decide, rfl, rfl, Or.inl rfl, Or.inl ⟨g_1000, Or.inr ⟨rfl, rfl, rfl⟩⟩, t_10_ok 3 (by decide), Or.inr (Or.inr (Or.inl ⟨rfl, Or.inl ⟨_, rfl⟩⟩))⟩
theorem fp_187 : sd_FP "java/util/ArrayList$Itr" "<init>" 13 641 := by
  intro ci h
  have hc : ci = 10 := by rcases am_g_of h with h | h <;> omega
  subst hc
  exact ⟨_, _, _, "java/util/ArrayList$Itr", "lastRet", "I", _, t_10, rfl, i_10, t_10_ok, n_10, by decide, rfl, rfl, Or.inl rfl, Or.inl ⟨g_998, Or.inl rfl⟩, t_10_ok 1 (by decide), Or.inl ⟨rfl, rfl⟩⟩
theorem fo_188 : sd_FO "java/util/ArrayList$Itr" 1 8835 := by
  intro ci h
  have hc : ci = 10 := by rcases am_g_of h with h | h <;> omega
  subst hc
  exact Or.inl ⟨_, _, _, "java/util/ArrayList$Itr", "this$0", "Ljava/util/ArrayList;", rfl, i_10, by decide, rfl, rfl, Or.inl rfl, Or.inl g_1000⟩
theorem fo_189 : sd_FO "java/util/ArrayList$Itr" 17 130 := by
  intro ci h
  have hc : ci = 2 := by rcases am_g_of h with h | h <;> omega
  subst hc
  exact Or.inl ⟨_, _, _, "java/util/ArrayList", "modCount", "I", rfl, i_2, by decide, rfl, rfl, Or.inr g_130, Or.inl g_129⟩
theorem fp_190 : sd_FP "java/util/ArrayList$Itr" "<init>" 22 642 := by
  intro ci h
  have hc : ci = 10 := by rcases am_g_of h with h | h <;> omega
  subst hc
  exact ⟨_, _, _, "java/util/ArrayList$Itr", "expectedModCount", "I", _, t_10, rfl, i_10, t_10_ok, n_10, by decide, rfl, rfl, Or.inl rfl, Or.inl ⟨g_999, Or.inl rfl⟩, t_10_ok 2 (by decide), Or.inl ⟨rfl, rfl⟩⟩
theorem fo_191 : sd_FO "java/util/ArrayList$Itr" 25 640 := by
  intro ci h
  have hc : ci = 10 := by rcases am_g_of h with h | h <;> omega
  subst hc
  exact Or.inl ⟨_, _, _, "java/util/ArrayList$Itr", "cursor", "I", rfl, i_10, by decide, rfl, rfl, Or.inl rfl, Or.inl g_997⟩
theorem fo_192 : sd_FO "java/util/ArrayList$Itr" 28 129 := by
  intro ci h
  have hc : ci = 2 := by rcases am_g_of h with h | h <;> omega
  subst hc
  exact Or.inl ⟨_, _, _, "java/util/ArrayList", "size", "I", rfl, i_2, by decide, rfl, rfl, Or.inl rfl, Or.inr ⟨_, k_n126⟩⟩
theorem fo_193 : sd_FO "java/util/ArrayList$Itr" 37 8320 := by
  intro ci h
  have hc : ci = 2 := by rcases am_g_of h with h | h <;> omega
  subst hc
  exact Or.inl ⟨_, _, _, "java/util/ArrayList", "elementData", "[Ljava/lang/Object;", rfl, i_2, by decide, rfl, rfl, Or.inl rfl, Or.inl g_125⟩
theorem fp_194 : sd_FP "java/util/ArrayList$Itr" "next" 25 640 := by
  intro ci h
  have hc : ci = 10 := by rcases am_g_of h with h | h <;> omega
  subst hc
  exact ⟨_, _, _, "java/util/ArrayList$Itr", "cursor", "I", _, t_10, rfl, i_10, t_10_ok, n_10, by decide, rfl, rfl, Or.inl rfl, Or.inl ⟨g_997, Or.inl rfl⟩, t_10_ok 0 (by decide), Or.inl ⟨rfl, rfl⟩⟩
theorem fp_195 : sd_FP "java/util/ArrayList$Itr" "next" 13 641 := by
  intro ci h
  have hc : ci = 10 := by rcases am_g_of h with h | h <;> omega
  subst hc
  exact ⟨_, _, _, "java/util/ArrayList$Itr", "lastRet", "I", _, t_10, rfl, i_10, t_10_ok, n_10, by decide, rfl, rfl, Or.inl rfl, Or.inl ⟨g_998, Or.inl rfl⟩, t_10_ok 1 (by decide), Or.inl ⟨rfl, rfl⟩⟩
theorem fo_196 : sd_FO "java/util/ArrayList$Itr" 22 642 := by
  intro ci h
  have hc : ci = 10 := by rcases am_g_of h with h | h <;> omega
  subst hc
  exact Or.inl ⟨_, _, _, "java/util/ArrayList$Itr", "expectedModCount", "I", rfl, i_10, by decide, rfl, rfl, Or.inl rfl, Or.inl g_999⟩
theorem fo_197 : sd_FO "ConeForms$Table" 30 325 := by
  intro ci h
  rcases (show ci = 5 ∨ ci = 6 ∨ ci = 7 ∨ ci = 8 by rcases am_g_of h with h | h <;> omega) with rfl | rfl | rfl | rfl
  · exact Or.inl ⟨_, _, _, "ConeForms$Node", "index", "I", rfl, i_5, by decide, rfl, rfl, Or.inl rfl, Or.inl g_497⟩
  · exact Or.inl ⟨_, _, _, "ConeForms$Node", "index", "I", rfl, i_6, by decide, rfl, rfl, Or.inl rfl, Or.inl g_497⟩
  · exact Or.inl ⟨_, _, _, "ConeForms$Node", "index", "I", rfl, i_7, by decide, rfl, rfl, Or.inl rfl, Or.inl g_497⟩
  · exact Or.inl ⟨_, _, _, "ConeForms$Node", "index", "I", rfl, i_8, by decide, rfl, rfl, Or.inl rfl, Or.inl g_497⟩
theorem fo_198 : sd_FO "ConeForms$Bend" 72 398 := by
  intro ci h
  have hc : ci = 6 := by rcases am_g_of h with h | h <;> omega
  subst hc
  exact Or.inl ⟨_, _, _, "ConeForms$Bend", "own", "I", rfl, i_6, by decide, rfl, rfl, Or.inl rfl, Or.inl g_564⟩
theorem fo_199 : sd_FO "ConeForms$Requirement" 7 4672 := by
  intro ci h
  have hc : ci = 9 := by rcases am_g_of h with h | h <;> omega
  subst hc
  exact Or.inl ⟨_, _, _, "ConeForms$Requirement", "same", "Z", rfl, i_9, by decide, rfl, rfl, Or.inl rfl, Or.inl g_926⟩
theorem fo_200 : sd_FO "ConeForms$Requirement" 13 8769 := by
  intro ci h
  have hc : ci = 9 := by rcases am_g_of h with h | h <;> omega
  subst hc
  exact Or.inl ⟨_, _, _, "ConeForms$Requirement", "a", "LConeForms$Node;", rfl, i_9, by decide, rfl, rfl, Or.inl rfl, Or.inl g_928⟩
theorem fo_201 : sd_FO "ConeForms$Requirement" 20 326 := by
  intro ci h
  rcases (show ci = 5 ∨ ci = 6 ∨ ci = 7 ∨ ci = 8 by rcases am_g_of h with h | h <;> omega) with rfl | rfl | rfl | rfl
  · exact Or.inl ⟨_, _, _, "ConeForms$Node", "value", "I", rfl, i_5, by decide, rfl, rfl, Or.inl rfl, Or.inl g_505⟩
  · exact Or.inl ⟨_, _, _, "ConeForms$Node", "value", "I", rfl, i_6, by decide, rfl, rfl, Or.inl rfl, Or.inl g_505⟩
  · exact Or.inl ⟨_, _, _, "ConeForms$Node", "value", "I", rfl, i_7, by decide, rfl, rfl, Or.inl rfl, Or.inl g_505⟩
  · exact Or.inl ⟨_, _, _, "ConeForms$Node", "value", "I", rfl, i_8, by decide, rfl, rfl, Or.inl rfl, Or.inl g_505⟩
theorem fo_202 : sd_FO "ConeForms$Requirement" 17 8770 := by
  intro ci h
  have hc : ci = 9 := by rcases am_g_of h with h | h <;> omega
  subst hc
  exact Or.inl ⟨_, _, _, "ConeForms$Requirement", "b", "LConeForms$Node;", rfl, i_9, by decide, rfl, rfl, Or.inl rfl, Or.inl g_930⟩
theorem fp_203 : sd_FP "ConeFormsModel" "<init>" 7 8896 := by
  intro ci h
  have hc : ci = 11 := by rcases am_g_of h with h | h <;> omega
  subst hc
  exact ⟨_, _, _, "ConeFormsModel", "line", "[I", _, t_11, rfl, i_11, t_11_ok, n_11, by decide, rfl, rfl, Or.inl rfl, Or.inl ⟨g_1080, Or.inr ⟨rfl, rfl, rfl⟩⟩, t_11_ok 0 (by decide), Or.inr (Or.inr (Or.inl ⟨rfl, Or.inr ⟨_, rfl⟩⟩))⟩
theorem fp_204 : sd_FP "ConeFormsModel" "<init>" 13 8902 := by
  intro ci h
  have hc : ci = 11 := by rcases am_g_of h with h | h <;> omega
  subst hc
  exact ⟨_, _, _, "ConeFormsModel", "top", "[I", _, t_11, rfl, i_11, t_11_ok, n_11, by decide, rfl, rfl, Or.inl rfl, Or.inl ⟨g_1086, Or.inr ⟨rfl, rfl, rfl⟩⟩, t_11_ok 6 (by decide), Or.inr (Or.inr (Or.inl ⟨rfl, Or.inr ⟨_, rfl⟩⟩))⟩
theorem fp_205 : sd_FP "ConeFormsModel" "<init>" 16 8903 := by
  intro ci h
  have hc : ci = 11 := by rcases am_g_of h with h | h <;> omega
  subst hc
  exact ⟨_, _, _, "ConeFormsModel", "commas", "[I", _, t_11, rfl, i_11, t_11_ok, n_11, by decide, rfl, rfl, Or.inl rfl, Or.inl ⟨g_1087, Or.inr ⟨rfl, rfl, rfl⟩⟩, t_11_ok 7 (by decide), Or.inr (Or.inr (Or.inl ⟨rfl, Or.inr ⟨_, rfl⟩⟩))⟩
theorem fp_206 : sd_FP "ConeFormsModel" "<init>" 19 8905 := by
  intro ci h
  have hc : ci = 11 := by rcases am_g_of h with h | h <;> omega
  subst hc
  exact ⟨_, _, _, "ConeFormsModel", "outKind", "[I", _, t_11, rfl, i_11, t_11_ok, n_11, by decide, rfl, rfl, Or.inl rfl, Or.inl ⟨g_1089, Or.inr ⟨rfl, rfl, rfl⟩⟩, t_11_ok 9 (by decide), Or.inr (Or.inr (Or.inl ⟨rfl, Or.inr ⟨_, rfl⟩⟩))⟩
theorem fp_207 : sd_FP "ConeFormsModel" "<init>" 22 8906 := by
  intro ci h
  have hc : ci = 11 := by rcases am_g_of h with h | h <;> omega
  subst hc
  exact ⟨_, _, _, "ConeFormsModel", "outNumber", "[I", _, t_11, rfl, i_11, t_11_ok, n_11, by decide, rfl, rfl, Or.inl rfl, Or.inl ⟨g_1090, Or.inr ⟨rfl, rfl, rfl⟩⟩, t_11_ok 10 (by decide), Or.inr (Or.inr (Or.inl ⟨rfl, Or.inr ⟨_, rfl⟩⟩))⟩
theorem fp_208 : sd_FP "ConeFormsModel" "<init>" 25 8907 := by
  intro ci h
  have hc : ci = 11 := by rcases am_g_of h with h | h <;> omega
  subst hc
  exact ⟨_, _, _, "ConeFormsModel", "taken", "[I", _, t_11, rfl, i_11, t_11_ok, n_11, by decide, rfl, rfl, Or.inl rfl, Or.inl ⟨g_1091, Or.inr ⟨rfl, rfl, rfl⟩⟩, t_11_ok 11 (by decide), Or.inr (Or.inr (Or.inl ⟨rfl, Or.inr ⟨_, rfl⟩⟩))⟩
theorem fp_209 : sd_FP "ConeFormsModel" "<init>" 28 8909 := by
  intro ci h
  have hc : ci = 11 := by rcases am_g_of h with h | h <;> omega
  subst hc
  exact ⟨_, _, _, "ConeFormsModel", "kind", "[I", _, t_11, rfl, i_11, t_11_ok, n_11, by decide, rfl, rfl, Or.inl rfl, Or.inl ⟨g_1093, Or.inr ⟨rfl, rfl, rfl⟩⟩, t_11_ok 13 (by decide), Or.inr (Or.inr (Or.inl ⟨rfl, Or.inr ⟨_, rfl⟩⟩))⟩
theorem fp_210 : sd_FP "ConeFormsModel" "<init>" 31 8910 := by
  intro ci h
  have hc : ci = 11 := by rcases am_g_of h with h | h <;> omega
  subst hc
  exact ⟨_, _, _, "ConeFormsModel", "number", "[I", _, t_11, rfl, i_11, t_11_ok, n_11, by decide, rfl, rfl, Or.inl rfl, Or.inl ⟨g_1094, Or.inr ⟨rfl, rfl, rfl⟩⟩, t_11_ok 14 (by decide), Or.inr (Or.inr (Or.inl ⟨rfl, Or.inr ⟨_, rfl⟩⟩))⟩
theorem fp_211 : sd_FP "ConeFormsModel" "<init>" 34 8911 := by
  intro ci h
  have hc : ci = 11 := by rcases am_g_of h with h | h <;> omega
  subst hc
  exact ⟨_, _, _, "ConeFormsModel", "argument", "[I", _, t_11, rfl, i_11, t_11_ok, n_11, by decide, rfl, rfl, Or.inl rfl, Or.inl ⟨g_1095, Or.inr ⟨rfl, rfl, rfl⟩⟩, t_11_ok 15 (by decide), Or.inr (Or.inr (Or.inl ⟨rfl, Or.inr ⟨_, rfl⟩⟩))⟩
theorem fp_212 : sd_FP "ConeFormsModel" "<init>" 37 8912 := by
  intro ci h
  have hc : ci = 11 := by rcases am_g_of h with h | h <;> omega
  subst hc
  exact ⟨_, _, _, "ConeFormsModel", "reaches", "[J", _, t_11, rfl, i_11, t_11_ok, n_11, by decide, rfl, rfl, Or.inl rfl, Or.inl ⟨g_1096, Or.inr ⟨rfl, rfl, rfl⟩⟩, t_11_ok 16 (by decide), Or.inr (Or.inr (Or.inl ⟨rfl, Or.inr ⟨_, rfl⟩⟩))⟩
theorem fp_213 : sd_FP "ConeFormsModel" "<init>" 41 8913 := by
  intro ci h
  have hc : ci = 11 := by rcases am_g_of h with h | h <;> omega
  subst hc
  exact ⟨_, _, _, "ConeFormsModel", "given", "[I", _, t_11, rfl, i_11, t_11_ok, n_11, by decide, rfl, rfl, Or.inl rfl, Or.inl ⟨g_1097, Or.inr ⟨rfl, rfl, rfl⟩⟩, t_11_ok 17 (by decide), Or.inr (Or.inr (Or.inl ⟨rfl, Or.inr ⟨_, rfl⟩⟩))⟩
theorem fp_214 : sd_FP "ConeFormsModel" "<init>" 44 8914 := by
  intro ci h
  have hc : ci = 11 := by rcases am_g_of h with h | h <;> omega
  subst hc
  exact ⟨_, _, _, "ConeFormsModel", "above", "[Z", _, t_11, rfl, i_11, t_11_ok, n_11, by decide, rfl, rfl, Or.inl rfl, Or.inl ⟨g_1098, Or.inr ⟨rfl, rfl, rfl⟩⟩, t_11_ok 18 (by decide), Or.inr (Or.inr (Or.inl ⟨rfl, Or.inr ⟨_, rfl⟩⟩))⟩
theorem fp_215 : sd_FP "ConeFormsModel" "<init>" 48 8915 := by
  intro ci h
  have hc : ci = 11 := by rcases am_g_of h with h | h <;> omega
  subst hc
  exact ⟨_, _, _, "ConeFormsModel", "below", "[Z", _, t_11, rfl, i_11, t_11_ok, n_11, by decide, rfl, rfl, Or.inl rfl, Or.inl ⟨g_1099, Or.inr ⟨rfl, rfl, rfl⟩⟩, t_11_ok 19 (by decide), Or.inr (Or.inr (Or.inl ⟨rfl, Or.inr ⟨_, rfl⟩⟩))⟩
theorem fp_216 : sd_FP "ConeFormsModel" "<init>" 51 8916 := by
  intro ci h
  have hc : ci = 11 := by rcases am_g_of h with h | h <;> omega
  subst hc
  exact ⟨_, _, _, "ConeFormsModel", "curve", "[I", _, t_11, rfl, i_11, t_11_ok, n_11, by decide, rfl, rfl, Or.inl rfl, Or.inl ⟨g_1100, Or.inr ⟨rfl, rfl, rfl⟩⟩, t_11_ok 20 (by decide), Or.inr (Or.inr (Or.inl ⟨rfl, Or.inr ⟨_, rfl⟩⟩))⟩
theorem fp_217 : sd_FP "ConeFormsModel" "<init>" 54 8917 := by
  intro ci h
  have hc : ci = 11 := by rcases am_g_of h with h | h <;> omega
  subst hc
  exact ⟨_, _, _, "ConeFormsModel", "blame", "[I", _, t_11, rfl, i_11, t_11_ok, n_11, by decide, rfl, rfl, Or.inl rfl, Or.inl ⟨g_1101, Or.inr ⟨rfl, rfl, rfl⟩⟩, t_11_ok 21 (by decide), Or.inr (Or.inr (Or.inl ⟨rfl, Or.inr ⟨_, rfl⟩⟩))⟩
theorem fp_218 : sd_FP "ConeFormsModel" "<init>" 57 8918 := by
  intro ci h
  have hc : ci = 11 := by rcases am_g_of h with h | h <;> omega
  subst hc
  exact ⟨_, _, _, "ConeFormsModel", "worth", "[I", _, t_11, rfl, i_11, t_11_ok, n_11, by decide, rfl, rfl, Or.inl rfl, Or.inl ⟨g_1102, Or.inr ⟨rfl, rfl, rfl⟩⟩, t_11_ok 22 (by decide), Or.inr (Or.inr (Or.inl ⟨rfl, Or.inr ⟨_, rfl⟩⟩))⟩
theorem fp_219 : sd_FP "ConeFormsModel" "<init>" 60 8919 := by
  intro ci h
  have hc : ci = 11 := by rcases am_g_of h with h | h <;> omega
  subst hc
  exact ⟨_, _, _, "ConeFormsModel", "used", "[Z", _, t_11, rfl, i_11, t_11_ok, n_11, by decide, rfl, rfl, Or.inl rfl, Or.inl ⟨g_1103, Or.inr ⟨rfl, rfl, rfl⟩⟩, t_11_ok 23 (by decide), Or.inr (Or.inr (Or.inl ⟨rfl, Or.inr ⟨_, rfl⟩⟩))⟩
theorem fp_220 : sd_FP "ConeFormsModel" "<init>" 63 8920 := by
  intro ci h
  have hc : ci = 11 := by rcases am_g_of h with h | h <;> omega
  subst hc
  exact ⟨_, _, _, "ConeFormsModel", "met", "[Z", _, t_11, rfl, i_11, t_11_ok, n_11, by decide, rfl, rfl, Or.inl rfl, Or.inl ⟨g_1104, Or.inr ⟨rfl, rfl, rfl⟩⟩, t_11_ok 24 (by decide), Or.inr (Or.inr (Or.inl ⟨rfl, Or.inr ⟨_, rfl⟩⟩))⟩
theorem fp_221 : sd_FP "ConeFormsModel" "<init>" 66 8921 := by
  intro ci h
  have hc : ci = 11 := by rcases am_g_of h with h | h <;> omega
  subst hc
  exact ⟨_, _, _, "ConeFormsModel", "walkNode", "[I", _, t_11, rfl, i_11, t_11_ok, n_11, by decide, rfl, rfl, Or.inl rfl, Or.inl ⟨g_1105, Or.inr ⟨rfl, rfl, rfl⟩⟩, t_11_ok 25 (by decide), Or.inr (Or.inr (Or.inl ⟨rfl, Or.inr ⟨_, rfl⟩⟩))⟩
theorem fp_222 : sd_FP "ConeFormsModel" "<init>" 69 8922 := by
  intro ci h
  have hc : ci = 11 := by rcases am_g_of h with h | h <;> omega
  subst hc
  exact ⟨_, _, _, "ConeFormsModel", "walkNext", "[I", _, t_11, rfl, i_11, t_11_ok, n_11, by decide, rfl, rfl, Or.inl rfl, Or.inl ⟨g_1106, Or.inr ⟨rfl, rfl, rfl⟩⟩, t_11_ok 26 (by decide), Or.inr (Or.inr (Or.inl ⟨rfl, Or.inr ⟨_, rfl⟩⟩))⟩
theorem fp_223 : sd_FP "ConeFormsModel" "<init>" 72 8923 := by
  intro ci h
  have hc : ci = 11 := by rcases am_g_of h with h | h <;> omega
  subst hc
  exact ⟨_, _, _, "ConeFormsModel", "linear", "[J", _, t_11, rfl, i_11, t_11_ok, n_11, by decide, rfl, rfl, Or.inl rfl, Or.inl ⟨g_1107, Or.inr ⟨rfl, rfl, rfl⟩⟩, t_11_ok 27 (by decide), Or.inr (Or.inr (Or.inl ⟨rfl, Or.inr ⟨_, rfl⟩⟩))⟩
theorem fp_224 : sd_FP "ConeFormsModel" "<init>" 75 732 := by
  intro ci h
  have hc : ci = 11 := by rcases am_g_of h with h | h <;> omega
  subst hc
  exact ⟨_, _, _, "ConeFormsModel", "goal", "I", _, t_11, rfl, i_11, t_11_ok, n_11, by decide, rfl, rfl, Or.inl rfl, Or.inl ⟨g_1108, Or.inl rfl⟩, t_11_ok 28 (by decide), Or.inl ⟨rfl, rfl⟩⟩
theorem fp_225 : sd_FP "ConeFormsModel" "<init>" 79 8927 := by
  intro ci h
  have hc : ci = 11 := by rcases am_g_of h with h | h <;> omega
  subst hc
  exact ⟨_, _, _, "ConeFormsModel", "exact", "[Z", _, t_11, rfl, i_11, t_11_ok, n_11, by decide, rfl, rfl, Or.inl rfl, Or.inl ⟨g_1111, Or.inr ⟨rfl, rfl, rfl⟩⟩, t_11_ok 31 (by decide), Or.inr (Or.inr (Or.inl ⟨rfl, Or.inr ⟨_, rfl⟩⟩))⟩
theorem fp_226 : sd_FP "ConeFormsModel" "<init>" 82 8928 := by
  intro ci h
  have hc : ci = 11 := by rcases am_g_of h with h | h <;> omega
  subst hc
  exact ⟨_, _, _, "ConeFormsModel", "left", "[I", _, t_11, rfl, i_11, t_11_ok, n_11, by decide, rfl, rfl, Or.inl rfl, Or.inl ⟨g_1112, Or.inr ⟨rfl, rfl, rfl⟩⟩, t_11_ok 32 (by decide), Or.inr (Or.inr (Or.inl ⟨rfl, Or.inr ⟨_, rfl⟩⟩))⟩
theorem fp_227 : sd_FP "ConeFormsModel" "<init>" 85 8929 := by
  intro ci h
  have hc : ci = 11 := by rcases am_g_of h with h | h <;> omega
  subst hc
  exact ⟨_, _, _, "ConeFormsModel", "right", "[I", _, t_11, rfl, i_11, t_11_ok, n_11, by decide, rfl, rfl, Or.inl rfl, Or.inl ⟨g_1113, Or.inr ⟨rfl, rfl, rfl⟩⟩, t_11_ok 33 (by decide), Or.inr (Or.inr (Or.inl ⟨rfl, Or.inr ⟨_, rfl⟩⟩))⟩
theorem fp_228 : sd_FP "ConeFormsModel" "<init>" 88 8931 := by
  intro ci h
  have hc : ci = 11 := by rcases am_g_of h with h | h <;> omega
  subst hc
  exact ⟨_, _, _, "ConeFormsModel", "own", "[I", _, t_11, rfl, i_11, t_11_ok, n_11, by decide, rfl, rfl, Or.inl rfl, Or.inl ⟨g_1115, Or.inr ⟨rfl, rfl, rfl⟩⟩, t_11_ok 35 (by decide), Or.inr (Or.inr (Or.inl ⟨rfl, Or.inr ⟨_, rfl⟩⟩))⟩
theorem fo_229 : sd_FO "ConeFormsModel" 91 705 := by
  intro ci h
  have hc : ci = 11 := by rcases am_g_of h with h | h <;> omega
  subst hc
  exact Or.inl ⟨_, _, _, "ConeFormsModel", "length", "I", rfl, i_11, by decide, rfl, rfl, Or.inl rfl, Or.inl g_1081⟩
theorem fo_230 : sd_FO "ConeFormsModel" 7 8896 := by
  intro ci h
  have hc : ci = 11 := by rcases am_g_of h with h | h <;> omega
  subst hc
  exact Or.inl ⟨_, _, _, "ConeFormsModel", "line", "[I", rfl, i_11, by decide, rfl, rfl, Or.inl rfl, Or.inl g_1080⟩
theorem fp_231 : sd_FP "ConeFormsModel" "type" 91 705 := by
  intro ci h
  have hc : ci = 11 := by rcases am_g_of h with h | h <;> omega
  subst hc
  exact ⟨_, _, _, "ConeFormsModel", "length", "I", _, t_11, rfl, i_11, t_11_ok, n_11, by decide, rfl, rfl, Or.inl rfl, Or.inl ⟨g_1081, Or.inl rfl⟩, t_11_ok 1 (by decide), Or.inl ⟨rfl, rfl⟩⟩
theorem fp_232 : sd_FP "ConeFormsModel" "wipe" 91 705 := by
  intro ci h
  have hc : ci = 11 := by rcases am_g_of h with h | h <;> omega
  subst hc
  exact ⟨_, _, _, "ConeFormsModel", "length", "I", _, t_11, rfl, i_11, t_11_ok, n_11, by decide, rfl, rfl, Or.inl rfl, Or.inl ⟨g_1081, Or.inl rfl⟩, t_11_ok 1 (by decide), Or.inl ⟨rfl, rfl⟩⟩
theorem fo_233 : sd_FO "ConeFormsModel" 145 716 := by
  intro ci h
  have hc : ci = 11 := by rcases am_g_of h with h | h <;> omega
  subst hc
  exact Or.inl ⟨_, _, _, "ConeFormsModel", "count", "I", rfl, i_11, by decide, rfl, rfl, Or.inl rfl, Or.inl g_1092⟩
theorem fp_234 : sd_FP "ConeFormsModel" "read" 145 716 := by
  intro ci h
  have hc : ci = 11 := by rcases am_g_of h with h | h <;> omega
  subst hc
  exact ⟨_, _, _, "ConeFormsModel", "count", "I", _, t_11, rfl, i_11, t_11_ok, n_11, by decide, rfl, rfl, Or.inl rfl, Or.inl ⟨g_1092, Or.inl rfl⟩, t_11_ok 12 (by decide), Or.inl ⟨rfl, rfl⟩⟩
theorem fp_235 : sd_FP "ConeFormsModel" "read" 91 705 := by
  intro ci h
  have hc : ci = 11 := by rcases am_g_of h with h | h <;> omega
  subst hc
  exact ⟨_, _, _, "ConeFormsModel", "length", "I", _, t_11, rfl, i_11, t_11_ok, n_11, by decide, rfl, rfl, Or.inl rfl, Or.inl ⟨g_1081, Or.inl rfl⟩, t_11_ok 1 (by decide), Or.inl ⟨rfl, rfl⟩⟩
theorem fp_236 : sd_FP "ConeFormsModel" "parse" 116 706 := by
  intro ci h
  have hc : ci = 11 := by rcases am_g_of h with h | h <;> omega
  subst hc
  exact ⟨_, _, _, "ConeFormsModel", "mode", "I", _, t_11, rfl, i_11, t_11_ok, n_11, by decide, rfl, rfl, Or.inl rfl, Or.inl ⟨g_1082, Or.inl rfl⟩, t_11_ok 2 (by decide), Or.inl ⟨rfl, rfl⟩⟩
theorem fp_237 : sd_FP "ConeFormsModel" "parse" 97 709 := by
  intro ci h
  have hc : ci = 11 := by rcases am_g_of h with h | h <;> omega
  subst hc
  exact ⟨_, _, _, "ConeFormsModel", "tops", "I", _, t_11, rfl, i_11, t_11_ok, n_11, by decide, rfl, rfl, Or.inl rfl, Or.inl ⟨g_1085, Or.inl rfl⟩, t_11_ok 5 (by decide), Or.inl ⟨rfl, rfl⟩⟩
theorem fp_238 : sd_FP "ConeFormsModel" "parse" 94 712 := by
  intro ci h
  have hc : ci = 11 := by rcases am_g_of h with h | h <;> omega
  subst hc
  exact ⟨_, _, _, "ConeFormsModel", "outs", "I", _, t_11, rfl, i_11, t_11_ok, n_11, by decide, rfl, rfl, Or.inl rfl, Or.inl ⟨g_1088, Or.inl rfl⟩, t_11_ok 8 (by decide), Or.inl ⟨rfl, rfl⟩⟩
theorem fo_239 : sd_FO "ConeFormsModel" 116 706 := by
  intro ci h
  have hc : ci = 11 := by rcases am_g_of h with h | h <;> omega
  subst hc
  exact Or.inl ⟨_, _, _, "ConeFormsModel", "mode", "I", rfl, i_11, by decide, rfl, rfl, Or.inl rfl, Or.inl g_1082⟩
theorem fo_240 : sd_FO "ConeFormsModel" 97 709 := by
  intro ci h
  have hc : ci = 11 := by rcases am_g_of h with h | h <;> omega
  subst hc
  exact Or.inl ⟨_, _, _, "ConeFormsModel", "tops", "I", rfl, i_11, by decide, rfl, rfl, Or.inl rfl, Or.inl g_1085⟩
theorem fp_241 : sd_FP "ConeFormsModel" "accept" 116 706 := by
  intro ci h
  have hc : ci = 11 := by rcases am_g_of h with h | h <;> omega
  subst hc
  exact ⟨_, _, _, "ConeFormsModel", "mode", "I", _, t_11, rfl, i_11, t_11_ok, n_11, by decide, rfl, rfl, Or.inl rfl, Or.inl ⟨g_1082, Or.inl rfl⟩, t_11_ok 2 (by decide), Or.inl ⟨rfl, rfl⟩⟩
theorem fp_242 : sd_FP "ConeFormsModel" "accept" 113 707 := by
  intro ci h
  have hc : ci = 11 := by rcases am_g_of h with h | h <;> omega
  subst hc
  exact ⟨_, _, _, "ConeFormsModel", "digits", "I", _, t_11, rfl, i_11, t_11_ok, n_11, by decide, rfl, rfl, Or.inl rfl, Or.inl ⟨g_1083, Or.inl rfl⟩, t_11_ok 3 (by decide), Or.inl ⟨rfl, rfl⟩⟩
theorem fo_243 : sd_FO "ConeFormsModel" 22 8906 := by
  intro ci h
  have hc : ci = 11 := by rcases am_g_of h with h | h <;> omega
  subst hc
  exact Or.inl ⟨_, _, _, "ConeFormsModel", "outNumber", "[I", rfl, i_11, by decide, rfl, rfl, Or.inl rfl, Or.inl g_1090⟩
theorem fo_244 : sd_FO "ConeFormsModel" 104 708 := by
  intro ci h
  have hc : ci = 11 := by rcases am_g_of h with h | h <;> omega
  subst hc
  exact Or.inl ⟨_, _, _, "ConeFormsModel", "numberAt", "I", rfl, i_11, by decide, rfl, rfl, Or.inl rfl, Or.inl g_1084⟩
theorem fo_245 : sd_FO "ConeFormsModel" 113 707 := by
  intro ci h
  have hc : ci = 11 := by rcases am_g_of h with h | h <;> omega
  subst hc
  exact Or.inl ⟨_, _, _, "ConeFormsModel", "digits", "I", rfl, i_11, by decide, rfl, rfl, Or.inl rfl, Or.inl g_1083⟩
theorem fo_246 : sd_FO "ConeFormsModel" 94 712 := by
  intro ci h
  have hc : ci = 11 := by rcases am_g_of h with h | h <;> omega
  subst hc
  exact Or.inl ⟨_, _, _, "ConeFormsModel", "outs", "I", rfl, i_11, by decide, rfl, rfl, Or.inl rfl, Or.inl g_1088⟩
theorem fp_247 : sd_FP "ConeFormsModel" "operand" 104 708 := by
  intro ci h
  have hc : ci = 11 := by rcases am_g_of h with h | h <;> omega
  subst hc
  exact ⟨_, _, _, "ConeFormsModel", "numberAt", "I", _, t_11, rfl, i_11, t_11_ok, n_11, by decide, rfl, rfl, Or.inl rfl, Or.inl ⟨g_1084, Or.inl rfl⟩, t_11_ok 4 (by decide), Or.inl ⟨rfl, rfl⟩⟩
theorem fo_248 : sd_FO "ConeFormsModel" 19 8905 := by
  intro ci h
  have hc : ci = 11 := by rcases am_g_of h with h | h <;> omega
  subst hc
  exact Or.inl ⟨_, _, _, "ConeFormsModel", "outKind", "[I", rfl, i_11, by decide, rfl, rfl, Or.inl rfl, Or.inl g_1089⟩
theorem fp_249 : sd_FP "ConeFormsModel" "emit" 94 712 := by
  intro ci h
  have hc : ci = 11 := by rcases am_g_of h with h | h <;> omega
  subst hc
  exact ⟨_, _, _, "ConeFormsModel", "outs", "I", _, t_11, rfl, i_11, t_11_ok, n_11, by decide, rfl, rfl, Or.inl rfl, Or.inl ⟨g_1088, Or.inl rfl⟩, t_11_ok 8 (by decide), Or.inl ⟨rfl, rfl⟩⟩
theorem fo_250 : sd_FO "ConeFormsModel" 13 8902 := by
  intro ci h
  have hc : ci = 11 := by rcases am_g_of h with h | h <;> omega
  subst hc
  exact Or.inl ⟨_, _, _, "ConeFormsModel", "top", "[I", rfl, i_11, by decide, rfl, rfl, Or.inl rfl, Or.inl g_1086⟩
theorem fp_251 : sd_FP "ConeFormsModel" "negations" 97 709 := by
  intro ci h
  have hc : ci = 11 := by rcases am_g_of h with h | h <;> omega
  subst hc
  exact ⟨_, _, _, "ConeFormsModel", "tops", "I", _, t_11, rfl, i_11, t_11_ok, n_11, by decide, rfl, rfl, Or.inl rfl, Or.inl ⟨g_1085, Or.inl rfl⟩, t_11_ok 5 (by decide), Or.inl ⟨rfl, rfl⟩⟩
theorem fp_252 : sd_FP "ConeFormsModel" "begin" 113 707 := by
  intro ci h
  have hc : ci = 11 := by rcases am_g_of h with h | h <;> omega
  subst hc
  exact ⟨_, _, _, "ConeFormsModel", "digits", "I", _, t_11, rfl, i_11, t_11_ok, n_11, by decide, rfl, rfl, Or.inl rfl, Or.inl ⟨g_1083, Or.inl rfl⟩, t_11_ok 3 (by decide), Or.inl ⟨rfl, rfl⟩⟩
theorem fp_253 : sd_FP "ConeFormsModel" "begin" 116 706 := by
  intro ci h
  have hc : ci = 11 := by rcases am_g_of h with h | h <;> omega
  subst hc
  exact ⟨_, _, _, "ConeFormsModel", "mode", "I", _, t_11, rfl, i_11, t_11_ok, n_11, by decide, rfl, rfl, Or.inl rfl, Or.inl ⟨g_1082, Or.inl rfl⟩, t_11_ok 2 (by decide), Or.inl ⟨rfl, rfl⟩⟩
theorem fo_254 : sd_FO "ConeFormsModel" 16 8903 := by
  intro ci h
  have hc : ci = 11 := by rcases am_g_of h with h | h <;> omega
  subst hc
  exact Or.inl ⟨_, _, _, "ConeFormsModel", "commas", "[I", rfl, i_11, by decide, rfl, rfl, Or.inl rfl, Or.inl g_1087⟩
theorem fp_255 : sd_FP "ConeFormsModel" "open" 97 709 := by
  intro ci h
  have hc : ci = 11 := by rcases am_g_of h with h | h <;> omega
  subst hc
  exact ⟨_, _, _, "ConeFormsModel", "tops", "I", _, t_11, rfl, i_11, t_11_ok, n_11, by decide, rfl, rfl, Or.inl rfl, Or.inl ⟨g_1085, Or.inl rfl⟩, t_11_ok 5 (by decide), Or.inl ⟨rfl, rfl⟩⟩
theorem fp_256 : sd_FP "ConeFormsModel" "follow" 116 706 := by
  intro ci h
  have hc : ci = 11 := by rcases am_g_of h with h | h <;> omega
  subst hc
  exact ⟨_, _, _, "ConeFormsModel", "mode", "I", _, t_11, rfl, i_11, t_11_ok, n_11, by decide, rfl, rfl, Or.inl rfl, Or.inl ⟨g_1082, Or.inl rfl⟩, t_11_ok 2 (by decide), Or.inl ⟨rfl, rfl⟩⟩
theorem fp_257 : sd_FP "ConeFormsModel" "follow" 97 709 := by
  intro ci h
  have hc : ci = 11 := by rcases am_g_of h with h | h <;> omega
  subst hc
  exact ⟨_, _, _, "ConeFormsModel", "tops", "I", _, t_11, rfl, i_11, t_11_ok, n_11, by decide, rfl, rfl, Or.inl rfl, Or.inl ⟨g_1085, Or.inl rfl⟩, t_11_ok 5 (by decide), Or.inl ⟨rfl, rfl⟩⟩
theorem fp_258 : sd_FP "ConeFormsModel" "unwind" 97 709 := by
  intro ci h
  have hc : ci = 11 := by rcases am_g_of h with h | h <;> omega
  subst hc
  exact ⟨_, _, _, "ConeFormsModel", "tops", "I", _, t_11, rfl, i_11, t_11_ok, n_11, by decide, rfl, rfl, Or.inl rfl, Or.inl ⟨g_1085, Or.inl rfl⟩, t_11_ok 5 (by decide), Or.inl ⟨rfl, rfl⟩⟩
theorem fo_259 : sd_FO "ConeFormsModel" 25 8907 := by
  intro ci h
  have hc : ci = 11 := by rcases am_g_of h with h | h <;> omega
  subst hc
  exact Or.inl ⟨_, _, _, "ConeFormsModel", "taken", "[I", rfl, i_11, by decide, rfl, rfl, Or.inl rfl, Or.inl g_1091⟩
theorem fo_260 : sd_FO "ConeFormsModel" 28 8909 := by
  intro ci h
  have hc : ci = 11 := by rcases am_g_of h with h | h <;> omega
  subst hc
  exact Or.inl ⟨_, _, _, "ConeFormsModel", "kind", "[I", rfl, i_11, by decide, rfl, rfl, Or.inl rfl, Or.inl g_1093⟩
theorem fo_261 : sd_FO "ConeFormsModel" 31 8910 := by
  intro ci h
  have hc : ci = 11 := by rcases am_g_of h with h | h <;> omega
  subst hc
  exact Or.inl ⟨_, _, _, "ConeFormsModel", "number", "[I", rfl, i_11, by decide, rfl, rfl, Or.inl rfl, Or.inl g_1094⟩
theorem fo_262 : sd_FO "ConeFormsModel" 34 8911 := by
  intro ci h
  have hc : ci = 11 := by rcases am_g_of h with h | h <;> omega
  subst hc
  exact Or.inl ⟨_, _, _, "ConeFormsModel", "argument", "[I", rfl, i_11, by decide, rfl, rfl, Or.inl rfl, Or.inl g_1095⟩
theorem fo_263 : sd_FO "ConeFormsModel" 37 8912 := by
  intro ci h
  have hc : ci = 11 := by rcases am_g_of h with h | h <;> omega
  subst hc
  exact Or.inl ⟨_, _, _, "ConeFormsModel", "reaches", "[J", rfl, i_11, by decide, rfl, rfl, Or.inl rfl, Or.inl g_1096⟩
theorem fo_264 : sd_FO "ConeFormsModel" 41 8913 := by
  intro ci h
  have hc : ci = 11 := by rcases am_g_of h with h | h <;> omega
  subst hc
  exact Or.inl ⟨_, _, _, "ConeFormsModel", "given", "[I", rfl, i_11, by decide, rfl, rfl, Or.inl rfl, Or.inl g_1097⟩
theorem fo_265 : sd_FO "ConeFormsModel" 88 8931 := by
  intro ci h
  have hc : ci = 11 := by rcases am_g_of h with h | h <;> omega
  subst hc
  exact Or.inl ⟨_, _, _, "ConeFormsModel", "own", "[I", rfl, i_11, by decide, rfl, rfl, Or.inl rfl, Or.inl g_1115⟩
theorem fp_266 : sd_FP "ConeFormsModel" "make" 145 716 := by
  intro ci h
  have hc : ci = 11 := by rcases am_g_of h with h | h <;> omega
  subst hc
  exact ⟨_, _, _, "ConeFormsModel", "count", "I", _, t_11, rfl, i_11, t_11_ok, n_11, by decide, rfl, rfl, Or.inl rfl, Or.inl ⟨g_1092, Or.inl rfl⟩, t_11_ok 12 (by decide), Or.inl ⟨rfl, rfl⟩⟩
theorem fo_267 : sd_FO "ConeFormsModel" 44 8914 := by
  intro ci h
  have hc : ci = 11 := by rcases am_g_of h with h | h <;> omega
  subst hc
  exact Or.inl ⟨_, _, _, "ConeFormsModel", "above", "[Z", rfl, i_11, by decide, rfl, rfl, Or.inl rfl, Or.inl g_1098⟩
theorem fo_268 : sd_FO "ConeFormsModel" 48 8915 := by
  intro ci h
  have hc : ci = 11 := by rcases am_g_of h with h | h <;> omega
  subst hc
  exact Or.inl ⟨_, _, _, "ConeFormsModel", "below", "[Z", rfl, i_11, by decide, rfl, rfl, Or.inl rfl, Or.inl g_1099⟩
theorem fo_269 : sd_FO "ConeFormsModel" 51 8916 := by
  intro ci h
  have hc : ci = 11 := by rcases am_g_of h with h | h <;> omega
  subst hc
  exact Or.inl ⟨_, _, _, "ConeFormsModel", "curve", "[I", rfl, i_11, by decide, rfl, rfl, Or.inl rfl, Or.inl g_1100⟩
theorem fo_270 : sd_FO "ConeFormsModel" 54 8917 := by
  intro ci h
  have hc : ci = 11 := by rcases am_g_of h with h | h <;> omega
  subst hc
  exact Or.inl ⟨_, _, _, "ConeFormsModel", "blame", "[I", rfl, i_11, by decide, rfl, rfl, Or.inl rfl, Or.inl g_1101⟩
theorem fo_271 : sd_FO "ConeFormsModel" 57 8918 := by
  intro ci h
  have hc : ci = 11 := by rcases am_g_of h with h | h <;> omega
  subst hc
  exact Or.inl ⟨_, _, _, "ConeFormsModel", "worth", "[I", rfl, i_11, by decide, rfl, rfl, Or.inl rfl, Or.inl g_1102⟩
theorem fo_272 : sd_FO "ConeFormsModel" 63 8920 := by
  intro ci h
  have hc : ci = 11 := by rcases am_g_of h with h | h <;> omega
  subst hc
  exact Or.inl ⟨_, _, _, "ConeFormsModel", "met", "[Z", rfl, i_11, by decide, rfl, rfl, Or.inl rfl, Or.inl g_1104⟩
theorem fo_273 : sd_FO "ConeFormsModel" 66 8921 := by
  intro ci h
  have hc : ci = 11 := by rcases am_g_of h with h | h <;> omega
  subst hc
  exact Or.inl ⟨_, _, _, "ConeFormsModel", "walkNode", "[I", rfl, i_11, by decide, rfl, rfl, Or.inl rfl, Or.inl g_1105⟩
theorem fo_274 : sd_FO "ConeFormsModel" 69 8922 := by
  intro ci h
  have hc : ci = 11 := by rcases am_g_of h with h | h <;> omega
  subst hc
  exact Or.inl ⟨_, _, _, "ConeFormsModel", "walkNext", "[I", rfl, i_11, by decide, rfl, rfl, Or.inl rfl, Or.inl g_1106⟩
theorem fp_275 : sd_FP "ConeFormsModel" "objective" 75 732 := by
  intro ci h
  have hc : ci = 11 := by rcases am_g_of h with h | h <;> omega
  subst hc
  exact ⟨_, _, _, "ConeFormsModel", "goal", "I", _, t_11, rfl, i_11, t_11_ok, n_11, by decide, rfl, rfl, Or.inl rfl, Or.inl ⟨g_1108, Or.inl rfl⟩, t_11_ok 28 (by decide), Or.inl ⟨rfl, rfl⟩⟩
theorem fp_276 : sd_FP "ConeFormsModel" "objective" 209 4829 := by
  intro ci h
  have hc : ci = 11 := by rcases am_g_of h with h | h <;> omega
  subst hc
  exact ⟨_, _, _, "ConeFormsModel", "goalLeast", "Z", _, t_11, rfl, i_11, t_11_ok, n_11, by decide, rfl, rfl, Or.inl rfl, Or.inl ⟨g_1109, Or.inl rfl⟩, t_11_ok 29 (by decide), Or.inr (Or.inl ⟨rfl, rfl⟩)⟩
theorem fp_277 : sd_FP "ConeFormsModel" "objective" 213 4834 := by
  intro ci h
  have hc : ci = 11 := by rcases am_g_of h with h | h <;> omega
  subst hc
  exact ⟨_, _, _, "ConeFormsModel", "stands", "Z", _, t_11, rfl, i_11, t_11_ok, n_11, by decide, rfl, rfl, Or.inl rfl, Or.inl ⟨g_1114, Or.inl rfl⟩, t_11_ok 34 (by decide), Or.inr (Or.inl ⟨rfl, rfl⟩)⟩
theorem fo_278 : sd_FO "ConeFormsModel" 216 734 := by
  intro ci h
  have hc : ci = 11 := by rcases am_g_of h with h | h <;> omega
  subst hc
  exact Or.inl ⟨_, _, _, "ConeFormsModel", "requirements", "I", rfl, i_11, by decide, rfl, rfl, Or.inl rfl, Or.inl g_1110⟩
theorem fo_279 : sd_FO "ConeFormsModel" 79 8927 := by
  intro ci h
  have hc : ci = 11 := by rcases am_g_of h with h | h <;> omega
  subst hc
  exact Or.inl ⟨_, _, _, "ConeFormsModel", "exact", "[Z", rfl, i_11, by decide, rfl, rfl, Or.inl rfl, Or.inl g_1111⟩
theorem fo_280 : sd_FO "ConeFormsModel" 82 8928 := by
  intro ci h
  have hc : ci = 11 := by rcases am_g_of h with h | h <;> omega
  subst hc
  exact Or.inl ⟨_, _, _, "ConeFormsModel", "left", "[I", rfl, i_11, by decide, rfl, rfl, Or.inl rfl, Or.inl g_1112⟩
theorem fo_281 : sd_FO "ConeFormsModel" 85 8929 := by
  intro ci h
  have hc : ci = 11 := by rcases am_g_of h with h | h <;> omega
  subst hc
  exact Or.inl ⟨_, _, _, "ConeFormsModel", "right", "[I", rfl, i_11, by decide, rfl, rfl, Or.inl rfl, Or.inl g_1113⟩
theorem fp_282 : sd_FP "ConeFormsModel" "require" 216 734 := by
  intro ci h
  have hc : ci = 11 := by rcases am_g_of h with h | h <;> omega
  subst hc
  exact ⟨_, _, _, "ConeFormsModel", "requirements", "I", _, t_11, rfl, i_11, t_11_ok, n_11, by decide, rfl, rfl, Or.inl rfl, Or.inl ⟨g_1110, Or.inl rfl⟩, t_11_ok 30 (by decide), Or.inl ⟨rfl, rfl⟩⟩
theorem fp_283 : sd_FP "ConeFormsModel" "require" 213 4834 := by
  intro ci h
  have hc : ci = 11 := by rcases am_g_of h with h | h <;> omega
  subst hc
  exact ⟨_, _, _, "ConeFormsModel", "stands", "Z", _, t_11, rfl, i_11, t_11_ok, n_11, by decide, rfl, rfl, Or.inl rfl, Or.inl ⟨g_1114, Or.inl rfl⟩, t_11_ok 34 (by decide), Or.inr (Or.inl ⟨rfl, rfl⟩)⟩
theorem fp_284 : sd_FP "ConeFormsModel" "withdraw" 216 734 := by
  intro ci h
  have hc : ci = 11 := by rcases am_g_of h with h | h <;> omega
  subst hc
  exact ⟨_, _, _, "ConeFormsModel", "requirements", "I", _, t_11, rfl, i_11, t_11_ok, n_11, by decide, rfl, rfl, Or.inl rfl, Or.inl ⟨g_1110, Or.inl rfl⟩, t_11_ok 30 (by decide), Or.inl ⟨rfl, rfl⟩⟩
theorem fp_285 : sd_FP "ConeFormsModel" "withdraw" 213 4834 := by
  intro ci h
  have hc : ci = 11 := by rcases am_g_of h with h | h <;> omega
  subst hc
  exact ⟨_, _, _, "ConeFormsModel", "stands", "Z", _, t_11, rfl, i_11, t_11_ok, n_11, by decide, rfl, rfl, Or.inl rfl, Or.inl ⟨g_1114, Or.inl rfl⟩, t_11_ok 34 (by decide), Or.inr (Or.inl ⟨rfl, rfl⟩)⟩
theorem fo_286 : sd_FO "ConeFormsModel" 75 732 := by
  intro ci h
  have hc : ci = 11 := by rcases am_g_of h with h | h <;> omega
  subst hc
  exact Or.inl ⟨_, _, _, "ConeFormsModel", "goal", "I", rfl, i_11, by decide, rfl, rfl, Or.inl rfl, Or.inl g_1108⟩
theorem fp_287 : sd_FP "ConeFormsModel" "compile" 213 4834 := by
  intro ci h
  have hc : ci = 11 := by rcases am_g_of h with h | h <;> omega
  subst hc
  exact ⟨_, _, _, "ConeFormsModel", "stands", "Z", _, t_11, rfl, i_11, t_11_ok, n_11, by decide, rfl, rfl, Or.inl rfl, Or.inl ⟨g_1114, Or.inl rfl⟩, t_11_ok 34 (by decide), Or.inr (Or.inl ⟨rfl, rfl⟩)⟩
theorem fo_288 : sd_FO "ConeFormsModel" 209 4829 := by
  intro ci h
  have hc : ci = 11 := by rcases am_g_of h with h | h <;> omega
  subst hc
  exact Or.inl ⟨_, _, _, "ConeFormsModel", "goalLeast", "Z", rfl, i_11, by decide, rfl, rfl, Or.inl rfl, Or.inl g_1109⟩
theorem fo_289 : sd_FO "ConeFormsModel" 60 8919 := by
  intro ci h
  have hc : ci = 11 := by rcases am_g_of h with h | h <;> omega
  subst hc
  exact Or.inl ⟨_, _, _, "ConeFormsModel", "used", "[Z", rfl, i_11, by decide, rfl, rfl, Or.inl rfl, Or.inl g_1103⟩
theorem fo_290 : sd_FO "ConeFormsModel" 213 4834 := by
  intro ci h
  have hc : ci = 11 := by rcases am_g_of h with h | h <;> omega
  subst hc
  exact Or.inl ⟨_, _, _, "ConeFormsModel", "stands", "Z", rfl, i_11, by decide, rfl, rfl, Or.inl rfl, Or.inl g_1114⟩
theorem fo_291 : sd_FO "ConeFormsModel" 72 8923 := by
  intro ci h
  have hc : ci = 11 := by rcases am_g_of h with h | h <;> omega
  subst hc
  exact Or.inl ⟨_, _, _, "ConeFormsModel", "linear", "[J", rfl, i_11, by decide, rfl, rfl, Or.inl rfl, Or.inl g_1107⟩
theorem y_0 : "java/lang/StringBuilder" ≠ "java/lang/invoke/MethodHandle" ∧ "java/lang/StringBuilder" ≠ "java/lang/invoke/VarHandle" ∧ (parseMethodDescriptor "()V").map (fun d => d.parameters.length) = some 0 := by decide +kernel
theorem c_0 : ∀ q ∈ vt_l.getD 0 [], ∃ y b mL r0, mi_l[q.2]? = some (y, b, mL, r0) ∧ sd_Callable "ConeForms" (.invokespecial 11) 3 1 y b mL r0 (some q.1) := by
  show ∀ q ∈ [(0, 1)], _
  exact List.forall_mem_cons.mpr ⟨⟨⟨"java/lang/StringBuilder", "<init>", "()V"⟩, prog_20_method_1_code, 1, none, by rfl, sd_callI g_38 g_39 g_3 g_40 rfl y_0 (by decide) (by decide)⟩, fun _ h => absurd h List.not_mem_nil⟩
theorem y_1 : "ConeForms$Scanner" ≠ "java/lang/invoke/MethodHandle" ∧ "ConeForms$Scanner" ≠ "java/lang/invoke/VarHandle" ∧ (parseMethodDescriptor "(Ljava/lang/StringBuilder;)V").map (fun d => d.parameters.length) = some 1 := by decide +kernel
theorem c_1 : ∀ q ∈ vt_l.getD 1 [], ∃ y b mL r0, mi_l[q.2]? = some (y, b, mL, r0) ∧ sd_Callable "ConeForms" (.invokespecial 18) 3 2 y b mL r0 (some q.1) := by
  show ∀ q ∈ [(1, 3)], _
  exact List.forall_mem_cons.mpr ⟨⟨⟨"ConeForms$Scanner", "<init>", "(Ljava/lang/StringBuilder;)V"⟩, prog_9_method_1_code, 2, none, by rfl, sd_callI g_70 g_71 g_6 g_72 rfl y_1 (by decide) (by decide)⟩, fun _ h => absurd h List.not_mem_nil⟩
theorem y_2 : "java/util/ArrayList" ≠ "java/lang/invoke/MethodHandle" ∧ "java/util/ArrayList" ≠ "java/lang/invoke/VarHandle" ∧ (parseMethodDescriptor "()V").map (fun d => d.parameters.length) = some 0 := by decide +kernel
theorem c_2 : ∀ q ∈ vt_l.getD 2 [], ∃ y b mL r0, mi_l[q.2]? = some (y, b, mL, r0) ∧ sd_Callable "ConeForms" (.invokespecial 27) 3 1 y b mL r0 (some q.1) := by
  show ∀ q ∈ [(2, 4)], _
  exact List.forall_mem_cons.mpr ⟨⟨⟨"java/util/ArrayList", "<init>", "()V"⟩, prog_26_method_2_code, 1, none, by rfl, sd_callI g_112 g_113 g_9 g_114 rfl y_2 (by decide) (by decide)⟩, fun _ h => absurd h List.not_mem_nil⟩
theorem y_3 : "ConeForms$Table" ≠ "java/lang/invoke/MethodHandle" ∧ "ConeForms$Table" ≠ "java/lang/invoke/VarHandle" ∧ (parseMethodDescriptor "(I)V").map (fun d => d.parameters.length) = some 1 := by decide +kernel
theorem c_3 : ∀ q ∈ vt_l.getD 3 [], ∃ y b mL r0, mi_l[q.2]? = some (y, b, mL, r0) ∧ sd_Callable "ConeForms" (.invokespecial 43) 3 2 y b mL r0 (some q.1) := by
  show ∀ q ∈ [(3, 7)], _
  exact List.forall_mem_cons.mpr ⟨⟨⟨"ConeForms$Table", "<init>", "(I)V"⟩, prog_10_method_1_code, 2, none, by rfl, sd_callI g_143 g_144 g_10 g_145 rfl y_3 (by decide) (by decide)⟩, fun _ h => absurd h List.not_mem_nil⟩
theorem y_4 : "java/lang/AbstractStringBuilder" ≠ "java/lang/invoke/MethodHandle" ∧ "java/lang/AbstractStringBuilder" ≠ "java/lang/invoke/VarHandle" ∧ (parseMethodDescriptor "(I)V").map (fun d => d.parameters.length) = some 1 := by decide +kernel
theorem c_4 : ∀ q ∈ vt_l.getD 4 [], ∃ y b mL r0, mi_l[q.2]? = some (y, b, mL, r0) ∧ sd_Callable "java/lang/StringBuilder" (.invokespecial 1) 3 2 y b mL r0 (some q.1) := by
  show ∀ q ∈ [(0, 2)], _
  exact List.forall_mem_cons.mpr ⟨⟨⟨"java/lang/AbstractStringBuilder", "<init>", "(I)V"⟩, prog_14_method_2_code, 2, none, by rfl, sd_callI g_41 g_42 g_2 g_43 rfl y_4 (by decide) (by decide)⟩, fun _ h => absurd h List.not_mem_nil⟩
theorem y_5 : "java/util/AbstractList" ≠ "java/lang/invoke/MethodHandle" ∧ "java/util/AbstractList" ≠ "java/lang/invoke/VarHandle" ∧ (parseMethodDescriptor "()V").map (fun d => d.parameters.length) = some 0 := by decide +kernel
theorem c_5 : ∀ q ∈ vt_l.getD 5 [], ∃ y b mL r0, mi_l[q.2]? = some (y, b, mL, r0) ∧ sd_Callable "java/util/ArrayList" (.invokespecial 1) 3 1 y b mL r0 (some q.1) := by
  show ∀ q ∈ [(2, 5)], _
  exact List.forall_mem_cons.mpr ⟨⟨⟨"java/util/AbstractList", "<init>", "()V"⟩, prog_25_method_1_code, 1, none, by rfl, sd_callI g_115 g_116 g_8 g_117 rfl y_5 (by decide) (by decide)⟩, fun _ h => absurd h List.not_mem_nil⟩
theorem y_6 : "java/util/AbstractCollection" ≠ "java/lang/invoke/MethodHandle" ∧ "java/util/AbstractCollection" ≠ "java/lang/invoke/VarHandle" ∧ (parseMethodDescriptor "()V").map (fun d => d.parameters.length) = some 0 := by decide +kernel
theorem c_6 : ∀ q ∈ vt_l.getD 6 [], ∃ y b mL r0, mi_l[q.2]? = some (y, b, mL, r0) ∧ sd_Callable "java/util/AbstractList" (.invokespecial 1) 3 1 y b mL r0 (some q.1) := by
  show ∀ q ∈ [(2, 6)], _
  exact List.forall_mem_cons.mpr ⟨⟨⟨"java/util/AbstractCollection", "<init>", "()V"⟩, prog_24_method_1_code, 1, none, by rfl, sd_callI g_118 g_119 g_7 g_120 rfl y_6 (by decide) (by decide)⟩, fun _ h => absurd h List.not_mem_nil⟩
theorem y_7 : "java/lang/StringBuilder" ≠ "java/lang/invoke/MethodHandle" ∧ "java/lang/StringBuilder" ≠ "java/lang/invoke/VarHandle" ∧ (parseMethodDescriptor "()I").map (fun d => d.parameters.length) = some 0 := by decide +kernel
theorem c_7 : ∀ q ∈ vt_l.getD 7 [], ∃ y b mL r0, mi_l[q.2]? = some (y, b, mL, r0) ∧ sd_Callable "ConeForms" (.invokevirtual 53) 3 1 y b mL r0 (some q.1) := by
  show ∀ q ∈ [(0, 9)], _
  exact List.forall_mem_cons.mpr ⟨⟨⟨"java/lang/StringBuilder", "length", "()I"⟩, prog_20_method_93_code, 1, (some FieldType.int), by rfl, sd_callV (C := "java/lang/StringBuilder") (Or.inr ⟨_, _, rfl⟩) g_212 g_213 g_214 g_3 g_215 y_7 (by decide)⟩, fun _ h => absurd h List.not_mem_nil⟩
theorem y_8 : "java/lang/StringBuilder" ≠ "java/lang/invoke/MethodHandle" ∧ "java/lang/StringBuilder" ≠ "java/lang/invoke/VarHandle" ∧ (parseMethodDescriptor "(C)Ljava/lang/StringBuilder;").map (fun d => d.parameters.length) = some 1 := by decide +kernel
theorem c_8 : ∀ q ∈ vt_l.getD 8 [], ∃ y b mL r0, mi_l[q.2]? = some (y, b, mL, r0) ∧ sd_Callable "ConeForms" (.invokevirtual 57) 3 2 y b mL r0 (some q.1) := by
  show ∀ q ∈ [(0, 11)], _
  exact List.forall_mem_cons.mpr ⟨⟨⟨"java/lang/StringBuilder", "append", "(C)Ljava/lang/StringBuilder;"⟩, prog_20_method_14_code, 2, (some (FieldType.object "java/lang/StringBuilder")), by rfl, sd_callV (C := "java/lang/StringBuilder") (Or.inr ⟨_, _, rfl⟩) g_219 g_220 g_221 g_3 g_222 y_8 (by decide)⟩, fun _ h => absurd h List.not_mem_nil⟩
theorem y_9 : "java/lang/AbstractStringBuilder" ≠ "java/lang/invoke/MethodHandle" ∧ "java/lang/AbstractStringBuilder" ≠ "java/lang/invoke/VarHandle" ∧ (parseMethodDescriptor "()I").map (fun d => d.parameters.length) = some 0 := by decide +kernel
theorem c_9 : ∀ q ∈ vt_l.getD 9 [], ∃ y b mL r0, mi_l[q.2]? = some (y, b, mL, r0) ∧ sd_Callable "java/lang/StringBuilder" (.invokespecial 343) 3 1 y b mL r0 (some q.1) := by
  show ∀ q ∈ [(0, 10)], _
  exact List.forall_mem_cons.mpr ⟨⟨⟨"java/lang/AbstractStringBuilder", "length", "()I"⟩, prog_14_method_6_code, 1, (some FieldType.int), by rfl, sd_callSU (C := "java/lang/StringBuilder") (T := F_0) (N := 4) rfl g_216 g_1435 g_66 g_217 g_2 g_218 ⟨by decide, y_9.2.2⟩ (by decide)⟩, fun _ h => absurd h List.not_mem_nil⟩
theorem y_10 : "java/lang/AbstractStringBuilder" ≠ "java/lang/invoke/MethodHandle" ∧ "java/lang/AbstractStringBuilder" ≠ "java/lang/invoke/VarHandle" ∧ (parseMethodDescriptor "(C)Ljava/lang/AbstractStringBuilder;").map (fun d => d.parameters.length) = some 1 := by decide +kernel
theorem c_10 : ∀ q ∈ vt_l.getD 10 [], ∃ y b mL r0, mi_l[q.2]? = some (y, b, mL, r0) ∧ sd_Callable "java/lang/StringBuilder" (.invokespecial 50) 3 2 y b mL r0 (some q.1) := by
  show ∀ q ∈ [(0, 12)], _
  exact List.forall_mem_cons.mpr ⟨⟨⟨"java/lang/AbstractStringBuilder", "append", "(C)Ljava/lang/AbstractStringBuilder;"⟩, prog_14_method_31_code, 2, (some (FieldType.object "java/lang/AbstractStringBuilder")), by rfl, sd_callSU (C := "java/lang/StringBuilder") (T := F_0) (N := 4) rfl g_223 g_1436 g_66 g_224 g_2 g_225 ⟨by decide, y_10.2.2⟩ (by decide)⟩, fun _ h => absurd h List.not_mem_nil⟩
theorem sl_2 : Cond.selects "java/lang/StringBuilder" ⟨"java/lang/AbstractStringBuilder", "ensureCapacityInternal", "(I)V"⟩ ⟨"java/lang/AbstractStringBuilder", "ensureCapacityInternal", "(I)V"⟩ ∈ gws := gms (List.mem_of_getElem? (i := 0) rfl) rfl
theorem y_11 : "java/lang/AbstractStringBuilder" ≠ "java/lang/invoke/MethodHandle" ∧ "java/lang/AbstractStringBuilder" ≠ "java/lang/invoke/VarHandle" ∧ (parseMethodDescriptor "(I)V").map (fun d => d.parameters.length) = some 1 := by decide +kernel
theorem c_11 : ∀ q ∈ vt_l.getD 11 [], ∃ y b mL r0, mi_l[q.2]? = some (y, b, mL, r0) ∧ sd_Callable "java/lang/AbstractStringBuilder" (.invokevirtual 100) 3 2 y b mL r0 (some q.1) := by
  show ∀ q ∈ [(0, 13)], _
  exact List.forall_mem_cons.mpr ⟨⟨⟨"java/lang/AbstractStringBuilder", "ensureCapacityInternal", "(I)V"⟩, prog_14_method_9_code, 3, none, by rfl, sd_callV (C := "java/lang/StringBuilder") (Or.inr ⟨_, _, rfl⟩) g_226 g_228 sl_2 g_2 g_229 y_11 (by decide)⟩, fun _ h => absurd h List.not_mem_nil⟩
theorem y_12 : "java/lang/AbstractStringBuilder" ≠ "java/lang/invoke/MethodHandle" ∧ "java/lang/AbstractStringBuilder" ≠ "java/lang/invoke/VarHandle" ∧ (parseMethodDescriptor "()Z").map (fun d => d.parameters.length) = some 0 := by decide +kernel
theorem c_12 : ∀ q ∈ vt_l.getD 12 [], ∃ y b mL r0, mi_l[q.2]? = some (y, b, mL, r0) ∧ sd_Callable "java/lang/AbstractStringBuilder" (.invokevirtual 83) 3 1 y b mL r0 (some q.1) := by
  show ∀ q ∈ [(0, 19)], _
  exact List.forall_mem_cons.mpr ⟨⟨⟨"java/lang/AbstractStringBuilder", "isLatin1", "()Z"⟩, prog_14_method_68_code, 1, (some FieldType.boolean), by rfl, sd_callV (C := "java/lang/StringBuilder") (Or.inr ⟨_, _, rfl⟩) g_261 g_262 g_264 g_2 g_265 y_12 (by decide)⟩, fun _ h => absurd h List.not_mem_nil⟩
theorem y_13 : "java/lang/StringLatin1" ≠ "java/lang/invoke/MethodHandle" ∧ "java/lang/StringLatin1" ≠ "java/lang/invoke/VarHandle" ∧ (parseMethodDescriptor "(C)Z").map (fun d => d.parameters.length) = some 1 := by decide +kernel
theorem c_13 : sd_Callable "java/lang/AbstractStringBuilder" (.invokestatic 191) 3 1 ⟨"java/lang/StringLatin1", "canEncode", "(C)Z"⟩ prog_21_method_3_code 1 (some FieldType.boolean) none := sd_callS g_266 g_267 g_16 g_268 y_13 (by decide)
theorem sl_4 : Cond.selects "java/lang/StringBuilder" ⟨"java/lang/AbstractStringBuilder", "newCapacity", "(I)I"⟩ ⟨"java/lang/AbstractStringBuilder", "newCapacity", "(I)I"⟩ ∈ gws := gms (List.mem_of_getElem? (i := 1) rfl) rfl
theorem y_14 : "java/lang/AbstractStringBuilder" ≠ "java/lang/invoke/MethodHandle" ∧ "java/lang/AbstractStringBuilder" ≠ "java/lang/invoke/VarHandle" ∧ (parseMethodDescriptor "(I)I").map (fun d => d.parameters.length) = some 1 := by decide +kernel
theorem c_14 : ∀ q ∈ vt_l.getD 14 [], ∃ y b mL r0, mi_l[q.2]? = some (y, b, mL, r0) ∧ sd_Callable "java/lang/AbstractStringBuilder" (.invokevirtual 104) 3 2 y b mL r0 (some q.1) := by
  show ∀ q ∈ [(0, 14)], _
  exact List.forall_mem_cons.mpr ⟨⟨⟨"java/lang/AbstractStringBuilder", "newCapacity", "(I)I"⟩, prog_14_method_10_code, 6, (some FieldType.int), by rfl, sd_callV (C := "java/lang/StringBuilder") (Or.inr ⟨_, _, rfl⟩) g_230 g_232 sl_4 g_2 g_233 y_14 (by decide)⟩, fun _ h => absurd h List.not_mem_nil⟩
theorem y_15 : "java/util/Arrays" ≠ "java/lang/invoke/MethodHandle" ∧ "java/util/Arrays" ≠ "java/lang/invoke/VarHandle" ∧ (parseMethodDescriptor "([BI)[B").map (fun d => d.parameters.length) = some 2 := by decide +kernel
theorem c_15 : sd_Callable "java/lang/AbstractStringBuilder" (.invokestatic 108) 3 2 ⟨"java/util/Arrays", "copyOf", "([BI)[B"⟩ prog_28_method_121_code 3 (some (FieldType.array FieldType.byte)) none := sd_callS g_245 g_246 g_14 g_247 y_15 (by decide)
theorem y_16 : "jdk/internal/util/ArraysSupport" ≠ "java/lang/invoke/MethodHandle" ∧ "jdk/internal/util/ArraysSupport" ≠ "java/lang/invoke/VarHandle" ∧ (parseMethodDescriptor "(III)I").map (fun d => d.parameters.length) = some 3 := by decide +kernel
theorem c_16 : sd_Callable "java/lang/AbstractStringBuilder" (.invokestatic 114) 3 3 ⟨"jdk/internal/util/ArraysSupport", "newLength", "(III)I"⟩ prog_35_method_27_code 4 (some FieldType.int) none := sd_callS g_234 g_235 g_12 g_236 y_16 (by decide)
theorem y_17 : "java/lang/Math" ≠ "java/lang/invoke/MethodHandle" ∧ "java/lang/Math" ≠ "java/lang/invoke/VarHandle" ∧ (parseMethodDescriptor "(II)I").map (fun d => d.parameters.length) = some 2 := by decide +kernel
theorem c_17 : sd_Callable "jdk/internal/util/ArraysSupport" (.invokestatic 194) 3 2 ⟨"java/lang/Math", "max", "(II)I"⟩ prog_18_method_65_code 2 (some FieldType.int) none := sd_callS g_237 g_238 g_13 g_239 y_17 (by decide)
theorem y_18 : "java/lang/Math" ≠ "java/lang/invoke/MethodHandle" ∧ "java/lang/Math" ≠ "java/lang/invoke/VarHandle" ∧ (parseMethodDescriptor "(II)I").map (fun d => d.parameters.length) = some 2 := by decide +kernel
theorem c_18 : sd_Callable "java/util/Arrays" (.invokestatic 304) 3 2 ⟨"java/lang/Math", "min", "(II)I"⟩ prog_18_method_69_code 2 (some FieldType.int) none := sd_callS g_255 g_256 g_13 g_257 y_18 (by decide)
theorem y_19 : "jdk/internal/util/Preconditions" ≠ "java/lang/invoke/MethodHandle" ∧ "jdk/internal/util/Preconditions" ≠ "java/lang/invoke/VarHandle" ∧ (parseMethodDescriptor "(IILjava/util/function/BiFunction;)I").map (fun d => d.parameters.length) = some 3 := by decide +kernel
theorem c_19 : sd_Callable "java/lang/String" (.invokestatic 1059) 3 3 ⟨"jdk/internal/util/Preconditions", "checkIndex", "(IILjava/util/function/BiFunction;)I"⟩ prog_36_method_11_code 3 (some FieldType.int) none := sd_callS g_311 g_312 g_17 g_313 y_19 (by decide)
theorem y_20 : "java/lang/StringBuilder" ≠ "java/lang/invoke/MethodHandle" ∧ "java/lang/StringBuilder" ≠ "java/lang/invoke/VarHandle" ∧ (parseMethodDescriptor "(I)V").map (fun d => d.parameters.length) = some 1 := by decide +kernel
theorem c_20 : ∀ q ∈ vt_l.getD 15 [], ∃ y b mL r0, mi_l[q.2]? = some (y, b, mL, r0) ∧ sd_Callable "ConeForms" (.invokevirtual 65) 3 2 y b mL r0 (some q.1) := by
  show ∀ q ∈ [(0, 24)], _
  exact List.forall_mem_cons.mpr ⟨⟨⟨"java/lang/StringBuilder", "setLength", "(I)V"⟩, prog_20_method_89_code, 2, none, by rfl, sd_callV (C := "java/lang/StringBuilder") (Or.inr ⟨_, _, rfl⟩) g_318 g_319 g_320 g_3 g_321 y_20 (by decide)⟩, fun _ h => absurd h List.not_mem_nil⟩
theorem y_21 : "java/lang/AbstractStringBuilder" ≠ "java/lang/invoke/MethodHandle" ∧ "java/lang/AbstractStringBuilder" ≠ "java/lang/invoke/VarHandle" ∧ (parseMethodDescriptor "(I)V").map (fun d => d.parameters.length) = some 1 := by decide +kernel
theorem c_21 : ∀ q ∈ vt_l.getD 16 [], ∃ y b mL r0, mi_l[q.2]? = some (y, b, mL, r0) ∧ sd_Callable "java/lang/StringBuilder" (.invokespecial 333) 3 2 y b mL r0 (some q.1) := by
  show ∀ q ∈ [(0, 25)], _
  exact List.forall_mem_cons.mpr ⟨⟨⟨"java/lang/AbstractStringBuilder", "setLength", "(I)V"⟩, prog_14_method_13_code, 2, none, by rfl, sd_callSU (C := "java/lang/StringBuilder") (T := F_0) (N := 4) rfl g_322 g_1440 g_66 g_323 g_2 g_324 ⟨by decide, y_21.2.2⟩ (by decide)⟩, fun _ h => absurd h List.not_mem_nil⟩
theorem y_22 : "java/util/ArrayList" ≠ "java/lang/invoke/MethodHandle" ∧ "java/util/ArrayList" ≠ "java/lang/invoke/VarHandle" ∧ (parseMethodDescriptor "()I").map (fun d => d.parameters.length) = some 0 := by decide +kernel
theorem c_22 : ∀ q ∈ vt_l.getD 17 [], ∃ y b mL r0, mi_l[q.2]? = some (y, b, mL, r0) ∧ sd_Callable "ConeForms" (.invokevirtual 72) 3 1 y b mL r0 (some q.1) := by
  show ∀ q ∈ [(2, 27)], _
  exact List.forall_mem_cons.mpr ⟨⟨⟨"java/util/ArrayList", "size", "()I"⟩, prog_26_method_8_code, 1, (some FieldType.int), by rfl, sd_callV (C := "java/util/ArrayList") (Or.inr ⟨_, _, rfl⟩) g_342 g_343 g_344 g_9 g_345 y_22 (by decide)⟩, fun _ h => absurd h List.not_mem_nil⟩
theorem y_23 : "ConeForms$Scanner" ≠ "java/lang/invoke/MethodHandle" ∧ "ConeForms$Scanner" ≠ "java/lang/invoke/VarHandle" ∧ (parseMethodDescriptor "()Z").map (fun d => d.parameters.length) = some 0 := by decide +kernel
theorem c_23 : ∀ q ∈ vt_l.getD 18 [], ∃ y b mL r0, mi_l[q.2]? = some (y, b, mL, r0) ∧ sd_Callable "ConeForms" (.invokevirtual 75) 3 1 y b mL r0 (some q.1) := by
  show ∀ q ∈ [(1, 28)], _
  exact List.forall_mem_cons.mpr ⟨⟨⟨"ConeForms$Scanner", "scan", "()Z"⟩, prog_9_method_2_code, 2, (some FieldType.boolean), by rfl, sd_callV (C := "ConeForms$Scanner") (Or.inr ⟨_, _, rfl⟩) g_346 g_347 g_348 g_6 g_349 y_23 (by decide)⟩, fun _ h => absurd h List.not_mem_nil⟩
theorem sl_8 : Cond.selects "ConeForms" ⟨"ConeForms", "make", "(I)I"⟩ ⟨"ConeForms", "make", "(I)I"⟩ ∈ gws := gmp (List.mem_map.mpr ⟨(⟨"ConeForms", "make", "(I)I"⟩, 17), List.mem_of_getElem? (i := 7) (by decide +kernel), rfl⟩) rfl
theorem y_24 : "ConeForms" ≠ "java/lang/invoke/MethodHandle" ∧ "ConeForms" ≠ "java/lang/invoke/VarHandle" ∧ (parseMethodDescriptor "(I)I").map (fun d => d.parameters.length) = some 1 := by decide +kernel
theorem c_24 : ∀ q ∈ vt_l.getD 19 [], ∃ y b mL r0, mi_l[q.2]? = some (y, b, mL, r0) ∧ sd_Callable "ConeForms" (.invokevirtual 79) 3 2 y b mL r0 (some q.1) := by
  show ∀ q ∈ [(4, 41)], _
  exact List.forall_mem_cons.mpr ⟨⟨⟨"ConeForms", "make", "(I)I"⟩, prog_1_method_7_code, 12, (some FieldType.int), by rfl, sd_callV (C := "ConeForms") (Or.inr ⟨_, _, rfl⟩) g_425 g_427 sl_8 g_1 g_428 y_24 (by decide)⟩, fun _ h => absurd h List.not_mem_nil⟩
theorem y_25 : "java/util/ArrayList" ≠ "java/lang/invoke/MethodHandle" ∧ "java/util/ArrayList" ≠ "java/lang/invoke/VarHandle" ∧ (parseMethodDescriptor "(I)Ljava/lang/Object;").map (fun d => d.parameters.length) = some 1 := by decide +kernel
theorem c_25 : ∀ q ∈ vt_l.getD 20 [], ∃ y b mL r0, mi_l[q.2]? = some (y, b, mL, r0) ∧ sd_Callable "ConeForms" (.invokevirtual 86) 3 2 y b mL r0 (some q.1) := by
  show ∀ q ∈ [(2, 84)], _
  exact List.forall_mem_cons.mpr ⟨⟨⟨"java/util/ArrayList", "remove", "(I)Ljava/lang/Object;"⟩, prog_26_method_29_code, 4, (some (FieldType.object "java/lang/Object")), by rfl, sd_callV (C := "java/util/ArrayList") (Or.inr ⟨_, _, rfl⟩) g_799 g_800 g_801 g_9 g_802 y_25 (by decide)⟩, fun _ h => absurd h List.not_mem_nil⟩
theorem c_26 : ∀ q ∈ vt_l.getD 7 [], ∃ y b mL r0, mi_l[q.2]? = some (y, b, mL, r0) ∧ sd_Callable "ConeForms$Scanner" (.invokevirtual 46) 3 1 y b mL r0 (some q.1) := by
  show ∀ q ∈ [(0, 9)], _
  exact List.forall_mem_cons.mpr ⟨⟨⟨"java/lang/StringBuilder", "length", "()I"⟩, prog_20_method_93_code, 1, (some FieldType.int), by rfl, sd_callV (C := "java/lang/StringBuilder") (Or.inr ⟨_, _, rfl⟩) g_350 g_213 g_214 g_3 g_215 y_7 (by decide)⟩, fun _ h => absurd h List.not_mem_nil⟩
theorem y_26 : "java/lang/StringBuilder" ≠ "java/lang/invoke/MethodHandle" ∧ "java/lang/StringBuilder" ≠ "java/lang/invoke/VarHandle" ∧ (parseMethodDescriptor "(I)C").map (fun d => d.parameters.length) = some 1 := by decide +kernel
theorem c_27 : ∀ q ∈ vt_l.getD 21 [], ∃ y b mL r0, mi_l[q.2]? = some (y, b, mL, r0) ∧ sd_Callable "ConeForms$Scanner" (.invokevirtual 52) 3 2 y b mL r0 (some q.1) := by
  show ∀ q ∈ [(0, 29)], _
  exact List.forall_mem_cons.mpr ⟨⟨⟨"java/lang/StringBuilder", "charAt", "(I)C"⟩, prog_20_method_88_code, 2, (some FieldType.char), by rfl, sd_callV (C := "java/lang/StringBuilder") (Or.inr ⟨_, _, rfl⟩) g_351 g_352 g_353 g_3 g_354 y_26 (by decide)⟩, fun _ h => absurd h List.not_mem_nil⟩
theorem sl_11 : Cond.selects "ConeForms$Scanner" ⟨"ConeForms$Scanner", "first", "(C)Z"⟩ ⟨"ConeForms$Scanner", "first", "(C)Z"⟩ ∈ gws := gmp (List.mem_map.mpr ⟨(⟨"ConeForms$Scanner", "first", "(C)Z"⟩, 9), List.mem_of_getElem? (i := 0) (by decide +kernel), rfl⟩) rfl
theorem y_27 : "ConeForms$Scanner" ≠ "java/lang/invoke/MethodHandle" ∧ "ConeForms$Scanner" ≠ "java/lang/invoke/VarHandle" ∧ (parseMethodDescriptor "(C)Z").map (fun d => d.parameters.length) = some 1 := by decide +kernel
theorem c_28 : ∀ q ∈ vt_l.getD 22 [], ∃ y b mL r0, mi_l[q.2]? = some (y, b, mL, r0) ∧ sd_Callable "ConeForms$Scanner" (.invokevirtual 56) 3 2 y b mL r0 (some q.1) := by
  show ∀ q ∈ [(1, 31)], _
  exact List.forall_mem_cons.mpr ⟨⟨⟨"ConeForms$Scanner", "first", "(C)Z"⟩, prog_9_method_7_code, 3, (some FieldType.boolean), by rfl, sd_callV (C := "ConeForms$Scanner") (Or.inr ⟨_, _, rfl⟩) g_363 g_365 sl_11 g_6 g_366 y_27 (by decide)⟩, fun _ h => absurd h List.not_mem_nil⟩
theorem sl_12 : Cond.selects "ConeForms$Scanner" ⟨"ConeForms$Scanner", "then", "(C)Z"⟩ ⟨"ConeForms$Scanner", "then", "(C)Z"⟩ ∈ gws := gmp (List.mem_map.mpr ⟨(⟨"ConeForms$Scanner", "then", "(C)Z"⟩, 9), List.mem_of_getElem? (i := 5) (by decide +kernel), rfl⟩) rfl
theorem y_28 : "ConeForms$Scanner" ≠ "java/lang/invoke/MethodHandle" ∧ "ConeForms$Scanner" ≠ "java/lang/invoke/VarHandle" ∧ (parseMethodDescriptor "(C)Z").map (fun d => d.parameters.length) = some 1 := by decide +kernel
theorem c_29 : ∀ q ∈ vt_l.getD 23 [], ∃ y b mL r0, mi_l[q.2]? = some (y, b, mL, r0) ∧ sd_Callable "ConeForms$Scanner" (.invokevirtual 60) 3 2 y b mL r0 (some q.1) := by
  show ∀ q ∈ [(1, 38)], _
  exact List.forall_mem_cons.mpr ⟨⟨⟨"ConeForms$Scanner", "then", "(C)Z"⟩, prog_9_method_8_code, 2, (some FieldType.boolean), by rfl, sd_callV (C := "ConeForms$Scanner") (Or.inr ⟨_, _, rfl⟩) g_414 g_416 sl_12 g_6 g_417 y_28 (by decide)⟩, fun _ h => absurd h List.not_mem_nil⟩
theorem sl_13 : Cond.selects "ConeForms$Scanner" ⟨"ConeForms$Scanner", "reduce", "(I)V"⟩ ⟨"ConeForms$Scanner", "reduce", "(I)V"⟩ ∈ gws := gmp (List.mem_map.mpr ⟨(⟨"ConeForms$Scanner", "reduce", "(I)V"⟩, 9), List.mem_of_getElem? (i := 6) (by decide +kernel), rfl⟩) rfl
theorem y_29 : "ConeForms$Scanner" ≠ "java/lang/invoke/MethodHandle" ∧ "ConeForms$Scanner" ≠ "java/lang/invoke/VarHandle" ∧ (parseMethodDescriptor "(I)V").map (fun d => d.parameters.length) = some 1 := by decide +kernel
theorem c_30 : ∀ q ∈ vt_l.getD 24 [], ∃ y b mL r0, mi_l[q.2]? = some (y, b, mL, r0) ∧ sd_Callable "ConeForms$Scanner" (.invokevirtual 63) 3 2 y b mL r0 (some q.1) := by
  show ∀ q ∈ [(1, 39)], _
  exact List.forall_mem_cons.mpr ⟨⟨⟨"ConeForms$Scanner", "reduce", "(I)V"⟩, prog_9_method_10_code, 2, none, by rfl, sd_callV (C := "ConeForms$Scanner") (Or.inr ⟨_, _, rfl⟩) g_418 g_420 sl_13 g_6 g_421 y_29 (by decide)⟩, fun _ h => absurd h List.not_mem_nil⟩
theorem y_30 : "java/lang/AbstractStringBuilder" ≠ "java/lang/invoke/MethodHandle" ∧ "java/lang/AbstractStringBuilder" ≠ "java/lang/invoke/VarHandle" ∧ (parseMethodDescriptor "(I)C").map (fun d => d.parameters.length) = some 1 := by decide +kernel
theorem c_31 : ∀ q ∈ vt_l.getD 25 [], ∃ y b mL r0, mi_l[q.2]? = some (y, b, mL, r0) ∧ sd_Callable "java/lang/StringBuilder" (.invokespecial 329) 3 2 y b mL r0 (some q.1) := by
  show ∀ q ∈ [(0, 30)], _
  exact List.forall_mem_cons.mpr ⟨⟨⟨"java/lang/AbstractStringBuilder", "charAt", "(I)C"⟩, prog_14_method_14_code, 5, (some FieldType.char), by rfl, sd_callSU (C := "java/lang/StringBuilder") (T := F_0) (N := 4) rfl g_355 g_1441 g_66 g_356 g_2 g_357 ⟨by decide, y_30.2.2⟩ (by decide)⟩, fun _ h => absurd h List.not_mem_nil⟩
theorem c_32 : sd_Callable "java/lang/AbstractStringBuilder" (.invokestatic 138) 3 2 ⟨"java/lang/Math", "min", "(II)I"⟩ prog_18_method_69_code 2 (some FieldType.int) none := sd_callS g_358 g_256 g_13 g_257 y_18 (by decide)
theorem y_31 : "java/lang/String" ≠ "java/lang/invoke/MethodHandle" ∧ "java/lang/String" ≠ "java/lang/invoke/VarHandle" ∧ (parseMethodDescriptor "(II)V").map (fun d => d.parameters.length) = some 2 := by decide +kernel
theorem c_33 : sd_Callable "java/lang/AbstractStringBuilder" (.invokestatic 144) 3 2 ⟨"java/lang/String", "checkIndex", "(II)V"⟩ prog_19_method_155_code 2 none none := sd_callS g_359 g_309 g_4 g_310 y_31 (by decide)
theorem sl_14 : Cond.selects "ConeForms$Scanner" ⟨"ConeForms$Scanner", "digit", "()Z"⟩ ⟨"ConeForms$Scanner", "digit", "()Z"⟩ ∈ gws := gmp (List.mem_map.mpr ⟨(⟨"ConeForms$Scanner", "digit", "()Z"⟩, 9), List.mem_of_getElem? (i := 1) (by decide +kernel), rfl⟩) rfl
theorem y_32 : "ConeForms$Scanner" ≠ "java/lang/invoke/MethodHandle" ∧ "ConeForms$Scanner" ≠ "java/lang/invoke/VarHandle" ∧ (parseMethodDescriptor "()Z").map (fun d => d.parameters.length) = some 0 := by decide +kernel
theorem c_34 : ∀ q ∈ vt_l.getD 26 [], ∃ y b mL r0, mi_l[q.2]? = some (y, b, mL, r0) ∧ sd_Callable "ConeForms$Scanner" (.invokevirtual 67) 3 1 y b mL r0 (some q.1) := by
  show ∀ q ∈ [(1, 32)], _
  exact List.forall_mem_cons.mpr ⟨⟨⟨"ConeForms$Scanner", "digit", "()Z"⟩, prog_9_method_3_code, 1, (some FieldType.boolean), by rfl, sd_callV (C := "ConeForms$Scanner") (Or.inr ⟨_, _, rfl⟩) g_367 g_369 sl_14 g_6 g_370 y_32 (by decide)⟩, fun _ h => absurd h List.not_mem_nil⟩
theorem sl_15 : Cond.selects "ConeForms$Scanner" ⟨"ConeForms$Scanner", "number", "(I)I"⟩ ⟨"ConeForms$Scanner", "number", "(I)I"⟩ ∈ gws := gmp (List.mem_map.mpr ⟨(⟨"ConeForms$Scanner", "number", "(I)I"⟩, 9), List.mem_of_getElem? (i := 2) (by decide +kernel), rfl⟩) rfl
theorem y_33 : "ConeForms$Scanner" ≠ "java/lang/invoke/MethodHandle" ∧ "ConeForms$Scanner" ≠ "java/lang/invoke/VarHandle" ∧ (parseMethodDescriptor "(I)I").map (fun d => d.parameters.length) = some 1 := by decide +kernel
theorem c_35 : ∀ q ∈ vt_l.getD 27 [], ∃ y b mL r0, mi_l[q.2]? = some (y, b, mL, r0) ∧ sd_Callable "ConeForms$Scanner" (.invokevirtual 71) 3 2 y b mL r0 (some q.1) := by
  show ∀ q ∈ [(1, 33)], _
  exact List.forall_mem_cons.mpr ⟨⟨⟨"ConeForms$Scanner", "number", "(I)I"⟩, prog_9_method_4_code, 4, (some FieldType.int), by rfl, sd_callV (C := "ConeForms$Scanner") (Or.inr ⟨_, _, rfl⟩) g_371 g_373 sl_15 g_6 g_374 y_33 (by decide)⟩, fun _ h => absurd h List.not_mem_nil⟩
theorem sl_16 : Cond.selects "ConeForms$Scanner" ⟨"ConeForms$Scanner", "step", "(LConeForms$Kind;I)V"⟩ ⟨"ConeForms$Scanner", "step", "(LConeForms$Kind;I)V"⟩ ∈ gws := gmp (List.mem_map.mpr ⟨(⟨"ConeForms$Scanner", "step", "(LConeForms$Kind;I)V"⟩, 9), List.mem_of_getElem? (i := 3) (by decide +kernel), rfl⟩) rfl
theorem y_34 : "ConeForms$Scanner" ≠ "java/lang/invoke/MethodHandle" ∧ "ConeForms$Scanner" ≠ "java/lang/invoke/VarHandle" ∧ (parseMethodDescriptor "(LConeForms$Kind;I)V").map (fun d => d.parameters.length) = some 2 := by decide +kernel
theorem c_36 : ∀ q ∈ vt_l.getD 28 [], ∃ y b mL r0, mi_l[q.2]? = some (y, b, mL, r0) ∧ sd_Callable "ConeForms$Scanner" (.invokevirtual 79) 3 3 y b mL r0 (some q.1) := by
  show ∀ q ∈ [(1, 34)], _
  exact List.forall_mem_cons.mpr ⟨⟨⟨"ConeForms$Scanner", "step", "(LConeForms$Kind;I)V"⟩, prog_9_method_5_code, 3, none, by rfl, sd_callV (C := "ConeForms$Scanner") (Or.inr ⟨_, _, rfl⟩) g_377 g_379 sl_16 g_6 g_380 y_34 (by decide)⟩, fun _ h => absurd h List.not_mem_nil⟩
theorem sl_17 : Cond.selects "ConeForms$Scanner" ⟨"ConeForms$Scanner", "push", "(CI)V"⟩ ⟨"ConeForms$Scanner", "push", "(CI)V"⟩ ∈ gws := gmp (List.mem_map.mpr ⟨(⟨"ConeForms$Scanner", "push", "(CI)V"⟩, 9), List.mem_of_getElem? (i := 4) (by decide +kernel), rfl⟩) rfl
theorem y_35 : "ConeForms$Scanner" ≠ "java/lang/invoke/MethodHandle" ∧ "ConeForms$Scanner" ≠ "java/lang/invoke/VarHandle" ∧ (parseMethodDescriptor "(CI)V").map (fun d => d.parameters.length) = some 2 := by decide +kernel
theorem c_37 : ∀ q ∈ vt_l.getD 29 [], ∃ y b mL r0, mi_l[q.2]? = some (y, b, mL, r0) ∧ sd_Callable "ConeForms$Scanner" (.invokevirtual 89) 3 3 y b mL r0 (some q.1) := by
  show ∀ q ∈ [(1, 35)], _
  exact List.forall_mem_cons.mpr ⟨⟨⟨"ConeForms$Scanner", "push", "(CI)V"⟩, prog_9_method_6_code, 3, none, by rfl, sd_callV (C := "ConeForms$Scanner") (Or.inr ⟨_, _, rfl⟩) g_385 g_387 sl_17 g_6 g_388 y_35 (by decide)⟩, fun _ h => absurd h List.not_mem_nil⟩
theorem y_36 : "ConeForms$Scanner" ≠ "java/lang/invoke/MethodHandle" ∧ "ConeForms$Scanner" ≠ "java/lang/invoke/VarHandle" ∧ (parseMethodDescriptor "(C)LConeForms$Kind;").map (fun d => d.parameters.length) = some 1 := by decide +kernel
theorem c_38 : sd_Callable "ConeForms$Scanner" (.invokestatic 93) 3 1 ⟨"ConeForms$Scanner", "kindOf", "(C)LConeForms$Kind;"⟩ prog_9_method_11_code 1 (some (FieldType.object "ConeForms$Kind")) none := sd_callS g_389 g_390 g_6 g_391 y_36 (by decide)
theorem y_37 : "ConeForms$Kind" ≠ "java/lang/invoke/MethodHandle" ∧ "ConeForms$Kind" ≠ "java/lang/invoke/VarHandle" ∧ (parseMethodDescriptor "()Z").map (fun d => d.parameters.length) = some 0 := by decide +kernel
theorem c_39 : ∀ q ∈ vt_l.getD 30 [], ∃ y b mL r0, mi_l[q.2]? = some (y, b, mL, r0) ∧ sd_Callable "ConeForms$Scanner" (.invokevirtual 97) 3 1 y b mL r0 (some q.1) := by
  show ∀ q ∈ [(12, 37)], _
  exact List.forall_mem_cons.mpr ⟨⟨⟨"ConeForms$Kind", "bent", "()Z"⟩, prog_3_method_4_code, 1, (some FieldType.boolean), by rfl, sd_callV (C := "ConeForms$Kind") (Or.inl ⟨rfl, rfl⟩) g_410 g_411 g_412 g_19 g_413 y_37 (by decide)⟩, fun _ h => absurd h List.not_mem_nil⟩
theorem y_38 : "ConeForms$Scanner" ≠ "java/lang/invoke/MethodHandle" ∧ "ConeForms$Scanner" ≠ "java/lang/invoke/VarHandle" ∧ (parseMethodDescriptor "(C)I").map (fun d => d.parameters.length) = some 1 := by decide +kernel
theorem c_40 : sd_Callable "ConeForms$Scanner" (.invokestatic 103) 3 1 ⟨"ConeForms$Scanner", "rank", "(C)I"⟩ prog_9_method_9_code 1 (some FieldType.int) none := sd_callS g_422 g_423 g_6 g_424 y_38 (by decide)
theorem y_39 : "java/util/ArrayList" ≠ "java/lang/invoke/MethodHandle" ∧ "java/util/ArrayList" ≠ "java/lang/invoke/VarHandle" ∧ (parseMethodDescriptor "(I)Ljava/lang/Object;").map (fun d => d.parameters.length) = some 1 := by decide +kernel
theorem c_41 : ∀ q ∈ vt_l.getD 31 [], ∃ y b mL r0, mi_l[q.2]? = some (y, b, mL, r0) ∧ sd_Callable "ConeForms" (.invokevirtual 101) 3 2 y b mL r0 (some q.1) := by
  show ∀ q ∈ [(2, 42)], _
  exact List.forall_mem_cons.mpr ⟨⟨⟨"java/util/ArrayList", "get", "(I)Ljava/lang/Object;"⟩, prog_26_method_20_code, 2, (some (FieldType.object "java/lang/Object")), by rfl, sd_callV (C := "java/util/ArrayList") (Or.inr ⟨_, _, rfl⟩) g_429 g_430 g_431 g_9 g_432 y_39 (by decide)⟩, fun _ h => absurd h List.not_mem_nil⟩
theorem sl_20 : Cond.selects "ConeForms" ⟨"ConeForms", "equal", "(LConeForms$Kind;ILConeForms$Node;LConeForms$Node;LConeForms$Node;)LConeForms$Node;"⟩ ⟨"ConeForms", "equal", "(LConeForms$Kind;ILConeForms$Node;LConeForms$Node;LConeForms$Node;)LConeForms$Node;"⟩ ∈ gws := gmp (List.mem_map.mpr ⟨(⟨"ConeForms", "equal", "(LConeForms$Kind;ILConeForms$Node;LConeForms$Node;LConeForms$Node;)LConeForms$Node;"⟩, 17), List.mem_of_getElem? (i := 8) (by decide +kernel), rfl⟩) rfl
theorem y_40 : "ConeForms" ≠ "java/lang/invoke/MethodHandle" ∧ "ConeForms" ≠ "java/lang/invoke/VarHandle" ∧ (parseMethodDescriptor "(LConeForms$Kind;ILConeForms$Node;LConeForms$Node;LConeForms$Node;)LConeForms$Node;").map (fun d => d.parameters.length) = some 5 := by decide +kernel
theorem c_42 : ∀ q ∈ vt_l.getD 32 [], ∃ y b mL r0, mi_l[q.2]? = some (y, b, mL, r0) ∧ sd_Callable "ConeForms" (.invokevirtual 109) 3 6 y b mL r0 (some q.1) := by
  show ∀ q ∈ [(4, 45)], _
  exact List.forall_mem_cons.mpr ⟨⟨⟨"ConeForms", "equal", "(LConeForms$Kind;ILConeForms$Node;LConeForms$Node;LConeForms$Node;)LConeForms$Node;"⟩, prog_1_method_8_code, 8, (some (FieldType.object "ConeForms$Node")), by rfl, sd_callV (C := "ConeForms") (Or.inr ⟨_, _, rfl⟩) g_441 g_443 sl_20 g_1 g_444 y_40 (by decide)⟩, fun _ h => absurd h List.not_mem_nil⟩
theorem y_41 : "ConeForms" ≠ "java/lang/invoke/MethodHandle" ∧ "ConeForms" ≠ "java/lang/invoke/VarHandle" ∧ (parseMethodDescriptor "(LConeForms$Kind;ILConeForms$Node;LConeForms$Node;LConeForms$Node;)LConeForms$Node;").map (fun d => d.parameters.length) = some 5 := by decide +kernel
theorem c_43 : sd_Callable "ConeForms" (.invokestatic 113) 3 5 ⟨"ConeForms", "fresh", "(LConeForms$Kind;ILConeForms$Node;LConeForms$Node;LConeForms$Node;)LConeForms$Node;"⟩ prog_1_method_9_code 5 (some (FieldType.object "ConeForms$Node")) none := sd_callS g_445 g_446 g_1 g_447 y_41 (by decide)
theorem y_42 : "ConeForms$Node" ≠ "java/lang/invoke/MethodHandle" ∧ "ConeForms$Node" ≠ "java/lang/invoke/VarHandle" ∧ (parseMethodDescriptor "()J").map (fun d => d.parameters.length) = some 0 := by decide +kernel
theorem c_44 : ∀ q ∈ vt_l.getD 33 [], ∃ y b mL r0, mi_l[q.2]? = some (y, b, mL, r0) ∧ sd_Callable "ConeForms" (.invokevirtual 116) 3 1 y b mL r0 (some q.1) := by
  show ∀ q ∈ [(5, 54), (6, 52), (7, 56), (8, 55)], _
  exact List.forall_mem_cons.mpr ⟨⟨⟨"ConeForms$Leaf", "span", "()J"⟩, prog_4_method_2_code, 1, (some FieldType.long), by rfl, sd_callU (C := "ConeForms$Leaf") (owner := "ConeForms$Node") (Or.inr ⟨_, _, rfl⟩) g_627 g_629 g_641 g_640 g_22 g_642 (Or.inl k_n628) y_42 (by decide)⟩, List.forall_mem_cons.mpr ⟨⟨⟨"ConeForms$Bend", "span", "()J"⟩, prog_2_method_2_code, 1, (some FieldType.long), by rfl, sd_callU (C := "ConeForms$Bend") (owner := "ConeForms$Node") (Or.inr ⟨_, _, rfl⟩) g_627 g_629 g_631 g_630 g_23 g_632 (Or.inl k_n628) y_42 (by decide)⟩, List.forall_mem_cons.mpr ⟨⟨⟨"ConeForms$Product", "span", "()J"⟩, prog_7_method_2_code, 1, (some FieldType.long), by rfl, sd_callU (C := "ConeForms$Product") (owner := "ConeForms$Node") (Or.inr ⟨_, _, rfl⟩) g_627 g_629 g_651 g_650 g_24 g_652 (Or.inl k_n628) y_42 (by decide)⟩, List.forall_mem_cons.mpr ⟨⟨⟨"ConeForms$Linear", "span", "()J"⟩, prog_5_method_2_code, 1, (some FieldType.long), by rfl, sd_callU (C := "ConeForms$Linear") (owner := "ConeForms$Node") (Or.inr ⟨_, _, rfl⟩) g_627 g_629 g_648 g_647 g_25 g_649 (Or.inl k_n628) y_42 (by decide)⟩, fun _ h => absurd h List.not_mem_nil⟩⟩⟩⟩
theorem sl_25 : Cond.selects "ConeForms" ⟨"ConeForms", "settle", "(LConeForms$Node;I)V"⟩ ⟨"ConeForms", "settle", "(LConeForms$Node;I)V"⟩ ∈ gws := gmp (List.mem_map.mpr ⟨(⟨"ConeForms", "settle", "(LConeForms$Node;I)V"⟩, 17), List.mem_of_getElem? (i := 9) (by decide +kernel), rfl⟩) rfl
theorem y_43 : "ConeForms" ≠ "java/lang/invoke/MethodHandle" ∧ "ConeForms" ≠ "java/lang/invoke/VarHandle" ∧ (parseMethodDescriptor "(LConeForms$Node;I)V").map (fun d => d.parameters.length) = some 2 := by decide +kernel
theorem c_45 : ∀ q ∈ vt_l.getD 34 [], ∃ y b mL r0, mi_l[q.2]? = some (y, b, mL, r0) ∧ sd_Callable "ConeForms" (.invokevirtual 122) 3 3 y b mL r0 (some q.1) := by
  show ∀ q ∈ [(4, 57)], _
  exact List.forall_mem_cons.mpr ⟨⟨⟨"ConeForms", "settle", "(LConeForms$Node;I)V"⟩, prog_1_method_10_code, 3, none, by rfl, sd_callV (C := "ConeForms") (Or.inr ⟨_, _, rfl⟩) g_654 g_656 sl_25 g_1 g_657 y_43 (by decide)⟩, fun _ h => absurd h List.not_mem_nil⟩
theorem y_44 : "java/util/Objects" ≠ "java/lang/invoke/MethodHandle" ∧ "java/util/Objects" ≠ "java/lang/invoke/VarHandle" ∧ (parseMethodDescriptor "(II)I").map (fun d => d.parameters.length) = some 2 := by decide +kernel
theorem c_46 : sd_Callable "java/util/ArrayList" (.invokestatic 118) 3 2 ⟨"java/util/Objects", "checkIndex", "(II)I"⟩ prog_32_method_17_code 2 (some FieldType.int) none := sd_callS g_433 g_434 g_20 g_435 y_44 (by decide)
theorem y_45 : "java/util/ArrayList" ≠ "java/lang/invoke/MethodHandle" ∧ "java/util/ArrayList" ≠ "java/lang/invoke/VarHandle" ∧ (parseMethodDescriptor "(I)Ljava/lang/Object;").map (fun d => d.parameters.length) = some 1 := by decide +kernel
theorem c_47 : ∀ q ∈ vt_l.getD 35 [], ∃ y b mL r0, mi_l[q.2]? = some (y, b, mL, r0) ∧ sd_Callable "java/util/ArrayList" (.invokevirtual 123) 3 2 y b mL r0 (some q.1) := by
  show ∀ q ∈ [(2, 44)], _
  exact List.forall_mem_cons.mpr ⟨⟨⟨"java/util/ArrayList", "elementData", "(I)Ljava/lang/Object;"⟩, prog_26_method_18_code, 2, (some (FieldType.object "java/lang/Object")), by rfl, sd_callV (C := "java/util/ArrayList") (Or.inr ⟨_, _, rfl⟩) g_437 g_438 g_439 g_9 g_440 y_45 (by decide)⟩, fun _ h => absurd h List.not_mem_nil⟩
theorem c_48 : sd_Callable "java/util/Objects" (.invokestatic 105) 3 3 ⟨"jdk/internal/util/Preconditions", "checkIndex", "(IILjava/util/function/BiFunction;)I"⟩ prog_36_method_11_code 3 (some FieldType.int) none := sd_callS g_436 g_312 g_17 g_313 y_19 (by decide)
theorem y_46 : "ConeForms$Leaf" ≠ "java/lang/invoke/MethodHandle" ∧ "ConeForms$Leaf" ≠ "java/lang/invoke/VarHandle" ∧ (parseMethodDescriptor "(LConeForms$Kind;I)V").map (fun d => d.parameters.length) = some 2 := by decide +kernel
theorem c_49 : ∀ q ∈ vt_l.getD 36 [], ∃ y b mL r0, mi_l[q.2]? = some (y, b, mL, r0) ∧ sd_Callable "ConeForms" (.invokespecial 147) 3 3 y b mL r0 (some q.1) := by
  show ∀ q ∈ [(5, 47)], _
  exact List.forall_mem_cons.mpr ⟨⟨⟨"ConeForms$Leaf", "<init>", "(LConeForms$Kind;I)V"⟩, prog_4_method_1_code, 3, none, by rfl, sd_callI g_450 g_451 g_22 g_452 rfl y_46 (by decide) (by decide)⟩, fun _ h => absurd h List.not_mem_nil⟩
theorem c_50 : ∀ q ∈ vt_l.getD 30 [], ∃ y b mL r0, mi_l[q.2]? = some (y, b, mL, r0) ∧ sd_Callable "ConeForms" (.invokevirtual 150) 3 1 y b mL r0 (some q.1) := by
  show ∀ q ∈ [(12, 37)], _
  exact List.forall_mem_cons.mpr ⟨⟨⟨"ConeForms$Kind", "bent", "()Z"⟩, prog_3_method_4_code, 1, (some FieldType.boolean), by rfl, sd_callV (C := "ConeForms$Kind") (Or.inl ⟨rfl, rfl⟩) g_557 g_411 g_412 g_19 g_413 y_37 (by decide)⟩, fun _ h => absurd h List.not_mem_nil⟩
theorem y_47 : "ConeForms$Bend" ≠ "java/lang/invoke/MethodHandle" ∧ "ConeForms$Bend" ≠ "java/lang/invoke/VarHandle" ∧ (parseMethodDescriptor "(LConeForms$Kind;LConeForms$Node;LConeForms$Node;LConeForms$Node;)V").map (fun d => d.parameters.length) = some 4 := by decide +kernel
theorem c_51 : ∀ q ∈ vt_l.getD 37 [], ∃ y b mL r0, mi_l[q.2]? = some (y, b, mL, r0) ∧ sd_Callable "ConeForms" (.invokespecial 155) 3 5 y b mL r0 (some q.1) := by
  show ∀ q ∈ [(6, 49)], _
  exact List.forall_mem_cons.mpr ⟨⟨⟨"ConeForms$Bend", "<init>", "(LConeForms$Kind;LConeForms$Node;LConeForms$Node;LConeForms$Node;)V"⟩, prog_2_method_1_code, 5, none, by rfl, sd_callI g_560 g_561 g_23 g_562 rfl y_47 (by decide) (by decide)⟩, fun _ h => absurd h List.not_mem_nil⟩
theorem y_48 : "ConeForms$Product" ≠ "java/lang/invoke/MethodHandle" ∧ "ConeForms$Product" ≠ "java/lang/invoke/VarHandle" ∧ (parseMethodDescriptor "(LConeForms$Node;LConeForms$Node;)V").map (fun d => d.parameters.length) = some 2 := by decide +kernel
theorem c_52 : ∀ q ∈ vt_l.getD 38 [], ∃ y b mL r0, mi_l[q.2]? = some (y, b, mL, r0) ∧ sd_Callable "ConeForms" (.invokespecial 163) 3 3 y b mL r0 (some q.1) := by
  show ∀ q ∈ [(7, 50)], _
  exact List.forall_mem_cons.mpr ⟨⟨⟨"ConeForms$Product", "<init>", "(LConeForms$Node;LConeForms$Node;)V"⟩, prog_7_method_1_code, 3, none, by rfl, sd_callI g_586 g_587 g_24 g_588 rfl y_48 (by decide) (by decide)⟩, fun _ h => absurd h List.not_mem_nil⟩
theorem y_49 : "ConeForms$Linear" ≠ "java/lang/invoke/MethodHandle" ∧ "ConeForms$Linear" ≠ "java/lang/invoke/VarHandle" ∧ (parseMethodDescriptor "(LConeForms$Kind;LConeForms$Node;LConeForms$Node;)V").map (fun d => d.parameters.length) = some 3 := by decide +kernel
theorem c_53 : ∀ q ∈ vt_l.getD 39 [], ∃ y b mL r0, mi_l[q.2]? = some (y, b, mL, r0) ∧ sd_Callable "ConeForms" (.invokespecial 168) 3 4 y b mL r0 (some q.1) := by
  show ∀ q ∈ [(8, 51)], _
  exact List.forall_mem_cons.mpr ⟨⟨⟨"ConeForms$Linear", "<init>", "(LConeForms$Kind;LConeForms$Node;LConeForms$Node;)V"⟩, prog_5_method_1_code, 4, none, by rfl, sd_callI g_608 g_609 g_25 g_610 rfl y_49 (by decide) (by decide)⟩, fun _ h => absurd h List.not_mem_nil⟩
theorem y_50 : "ConeForms$Node" ≠ "java/lang/invoke/MethodHandle" ∧ "ConeForms$Node" ≠ "java/lang/invoke/VarHandle" ∧ (parseMethodDescriptor "(LConeForms$Kind;ILConeForms$Node;LConeForms$Node;LConeForms$Node;)V").map (fun d => d.parameters.length) = some 5 := by decide +kernel
theorem c_54 : ∀ q ∈ vt_l.getD 40 [], ∃ y b mL r0, mi_l[q.2]? = some (y, b, mL, r0) ∧ sd_Callable "ConeForms$Leaf" (.invokespecial 3) 3 6 y b mL r0 (some q.1) := by
  show ∀ q ∈ [(5, 48), (6, 48), (7, 48), (8, 48)], _
  exact List.forall_mem_cons.mpr ⟨⟨⟨"ConeForms$Node", "<init>", "(LConeForms$Kind;ILConeForms$Node;LConeForms$Node;LConeForms$Node;)V"⟩, prog_6_method_1_code, 6, none, by rfl, sd_callI g_453 g_454 g_21 g_455 rfl y_50 (by decide) (by decide)⟩, List.forall_mem_cons.mpr ⟨⟨⟨"ConeForms$Node", "<init>", "(LConeForms$Kind;ILConeForms$Node;LConeForms$Node;LConeForms$Node;)V"⟩, prog_6_method_1_code, 6, none, by rfl, sd_callI g_453 g_454 g_21 g_455 rfl y_50 (by decide) (by decide)⟩, List.forall_mem_cons.mpr ⟨⟨⟨"ConeForms$Node", "<init>", "(LConeForms$Kind;ILConeForms$Node;LConeForms$Node;LConeForms$Node;)V"⟩, prog_6_method_1_code, 6, none, by rfl, sd_callI g_453 g_454 g_21 g_455 rfl y_50 (by decide) (by decide)⟩, List.forall_mem_cons.mpr ⟨⟨⟨"ConeForms$Node", "<init>", "(LConeForms$Kind;ILConeForms$Node;LConeForms$Node;LConeForms$Node;)V"⟩, prog_6_method_1_code, 6, none, by rfl, sd_callI g_453 g_454 g_21 g_455 rfl y_50 (by decide) (by decide)⟩, fun _ h => absurd h List.not_mem_nil⟩⟩⟩⟩
theorem c_55 : ∀ q ∈ vt_l.getD 40 [], ∃ y b mL r0, mi_l[q.2]? = some (y, b, mL, r0) ∧ sd_Callable "ConeForms$Bend" (.invokespecial 3) 3 6 y b mL r0 (some q.1) := by
  show ∀ q ∈ [(5, 48), (6, 48), (7, 48), (8, 48)], _
  exact List.forall_mem_cons.mpr ⟨⟨⟨"ConeForms$Node", "<init>", "(LConeForms$Kind;ILConeForms$Node;LConeForms$Node;LConeForms$Node;)V"⟩, prog_6_method_1_code, 6, none, by rfl, sd_callI g_563 g_454 g_21 g_455 rfl y_50 (by decide) (by decide)⟩, List.forall_mem_cons.mpr ⟨⟨⟨"ConeForms$Node", "<init>", "(LConeForms$Kind;ILConeForms$Node;LConeForms$Node;LConeForms$Node;)V"⟩, prog_6_method_1_code, 6, none, by rfl, sd_callI g_563 g_454 g_21 g_455 rfl y_50 (by decide) (by decide)⟩, List.forall_mem_cons.mpr ⟨⟨⟨"ConeForms$Node", "<init>", "(LConeForms$Kind;ILConeForms$Node;LConeForms$Node;LConeForms$Node;)V"⟩, prog_6_method_1_code, 6, none, by rfl, sd_callI g_563 g_454 g_21 g_455 rfl y_50 (by decide) (by decide)⟩, List.forall_mem_cons.mpr ⟨⟨⟨"ConeForms$Node", "<init>", "(LConeForms$Kind;ILConeForms$Node;LConeForms$Node;LConeForms$Node;)V"⟩, prog_6_method_1_code, 6, none, by rfl, sd_callI g_563 g_454 g_21 g_455 rfl y_50 (by decide) (by decide)⟩, fun _ h => absurd h List.not_mem_nil⟩⟩⟩⟩
theorem c_56 : ∀ q ∈ vt_l.getD 40 [], ∃ y b mL r0, mi_l[q.2]? = some (y, b, mL, r0) ∧ sd_Callable "ConeForms$Product" (.invokespecial 9) 3 6 y b mL r0 (some q.1) := by
  show ∀ q ∈ [(5, 48), (6, 48), (7, 48), (8, 48)], _
  exact List.forall_mem_cons.mpr ⟨⟨⟨"ConeForms$Node", "<init>", "(LConeForms$Kind;ILConeForms$Node;LConeForms$Node;LConeForms$Node;)V"⟩, prog_6_method_1_code, 6, none, by rfl, sd_callI g_590 g_454 g_21 g_455 rfl y_50 (by decide) (by decide)⟩, List.forall_mem_cons.mpr ⟨⟨⟨"ConeForms$Node", "<init>", "(LConeForms$Kind;ILConeForms$Node;LConeForms$Node;LConeForms$Node;)V"⟩, prog_6_method_1_code, 6, none, by rfl, sd_callI g_590 g_454 g_21 g_455 rfl y_50 (by decide) (by decide)⟩, List.forall_mem_cons.mpr ⟨⟨⟨"ConeForms$Node", "<init>", "(LConeForms$Kind;ILConeForms$Node;LConeForms$Node;LConeForms$Node;)V"⟩, prog_6_method_1_code, 6, none, by rfl, sd_callI g_590 g_454 g_21 g_455 rfl y_50 (by decide) (by decide)⟩, List.forall_mem_cons.mpr ⟨⟨⟨"ConeForms$Node", "<init>", "(LConeForms$Kind;ILConeForms$Node;LConeForms$Node;LConeForms$Node;)V"⟩, prog_6_method_1_code, 6, none, by rfl, sd_callI g_590 g_454 g_21 g_455 rfl y_50 (by decide) (by decide)⟩, fun _ h => absurd h List.not_mem_nil⟩⟩⟩⟩
theorem c_57 : ∀ q ∈ vt_l.getD 40 [], ∃ y b mL r0, mi_l[q.2]? = some (y, b, mL, r0) ∧ sd_Callable "ConeForms$Linear" (.invokespecial 1) 3 6 y b mL r0 (some q.1) := by
  show ∀ q ∈ [(5, 48), (6, 48), (7, 48), (8, 48)], _
  exact List.forall_mem_cons.mpr ⟨⟨⟨"ConeForms$Node", "<init>", "(LConeForms$Kind;ILConeForms$Node;LConeForms$Node;LConeForms$Node;)V"⟩, prog_6_method_1_code, 6, none, by rfl, sd_callI g_611 g_454 g_21 g_455 rfl y_50 (by decide) (by decide)⟩, List.forall_mem_cons.mpr ⟨⟨⟨"ConeForms$Node", "<init>", "(LConeForms$Kind;ILConeForms$Node;LConeForms$Node;LConeForms$Node;)V"⟩, prog_6_method_1_code, 6, none, by rfl, sd_callI g_611 g_454 g_21 g_455 rfl y_50 (by decide) (by decide)⟩, List.forall_mem_cons.mpr ⟨⟨⟨"ConeForms$Node", "<init>", "(LConeForms$Kind;ILConeForms$Node;LConeForms$Node;LConeForms$Node;)V"⟩, prog_6_method_1_code, 6, none, by rfl, sd_callI g_611 g_454 g_21 g_455 rfl y_50 (by decide) (by decide)⟩, List.forall_mem_cons.mpr ⟨⟨⟨"ConeForms$Node", "<init>", "(LConeForms$Kind;ILConeForms$Node;LConeForms$Node;LConeForms$Node;)V"⟩, prog_6_method_1_code, 6, none, by rfl, sd_callI g_611 g_454 g_21 g_455 rfl y_50 (by decide) (by decide)⟩, fun _ h => absurd h List.not_mem_nil⟩⟩⟩⟩
theorem y_51 : "java/lang/Enum" ≠ "java/lang/invoke/MethodHandle" ∧ "java/lang/Enum" ≠ "java/lang/invoke/VarHandle" ∧ (parseMethodDescriptor "()I").map (fun d => d.parameters.length) = some 0 := by decide +kernel
theorem c_58 : ∀ q ∈ vt_l.getD 41 [], ∃ y b mL r0, mi_l[q.2]? = some (y, b, mL, r0) ∧ sd_Callable "ConeForms$Bend" (.invokevirtual 15) 3 1 y b mL r0 (some q.1) := by
  show ∀ q ∈ [(12, 53)], _
  exact List.forall_mem_cons.mpr ⟨⟨⟨"java/lang/Enum", "ordinal", "()I"⟩, prog_16_method_2_code, 1, (some FieldType.int), by rfl, sd_callU (C := "ConeForms$Kind") (owner := "java/lang/Enum") (Or.inl ⟨rfl, rfl⟩) g_633 g_634 g_637 g_636 g_18 g_638 (Or.inl k_n635) y_51 (by decide)⟩, fun _ h => absurd h List.not_mem_nil⟩
theorem c_59 : sd_Callable "ConeForms$Bend" (.invokestatic 35) 3 2 ⟨"java/lang/Math", "max", "(II)I"⟩ prog_18_method_65_code 2 (some FieldType.int) none := sd_callS g_639 g_238 g_13 g_239 y_17 (by decide)
theorem c_60 : sd_Callable "ConeForms$Leaf" (.invokestatic 27) 3 2 ⟨"java/lang/Math", "max", "(II)I"⟩ prog_18_method_65_code 2 (some FieldType.int) none := sd_callS g_643 g_238 g_13 g_239 y_17 (by decide)
theorem y_52 : "ConeForms$Node" ≠ "java/lang/invoke/MethodHandle" ∧ "ConeForms$Node" ≠ "java/lang/invoke/VarHandle" ∧ (parseMethodDescriptor "()I").map (fun d => d.parameters.length) = some 0 := by decide +kernel
theorem c_61 : ∀ q ∈ vt_l.getD 42 [], ∃ y b mL r0, mi_l[q.2]? = some (y, b, mL, r0) ∧ sd_Callable "ConeForms" (.invokevirtual 174) 3 1 y b mL r0 (some q.1) := by
  show ∀ q ∈ [(5, 59), (6, 58), (7, 62), (8, 60)], _
  exact List.forall_mem_cons.mpr ⟨⟨⟨"ConeForms$Leaf", "signsDue", "()I"⟩, prog_4_method_4_code, 1, (some FieldType.int), by rfl, sd_callU (C := "ConeForms$Leaf") (owner := "ConeForms$Node") (Or.inr ⟨_, _, rfl⟩) g_658 g_660 g_665 g_664 g_22 g_666 (Or.inl k_n659) y_52 (by decide)⟩, List.forall_mem_cons.mpr ⟨⟨⟨"ConeForms$Bend", "signsDue", "()I"⟩, prog_2_method_4_code, 1, (some FieldType.int), by rfl, sd_callU (C := "ConeForms$Bend") (owner := "ConeForms$Node") (Or.inr ⟨_, _, rfl⟩) g_658 g_660 g_662 g_661 g_23 g_663 (Or.inl k_n659) y_52 (by decide)⟩, List.forall_mem_cons.mpr ⟨⟨⟨"ConeForms$Product", "signsDue", "()I"⟩, prog_7_method_4_code, 2, (some FieldType.int), by rfl, sd_callU (C := "ConeForms$Product") (owner := "ConeForms$Node") (Or.inr ⟨_, _, rfl⟩) g_658 g_660 g_676 g_675 g_24 g_677 (Or.inl k_n659) y_52 (by decide)⟩, List.forall_mem_cons.mpr ⟨⟨⟨"ConeForms$Linear", "signsDue", "()I"⟩, prog_5_method_4_code, 1, (some FieldType.int), by rfl, sd_callU (C := "ConeForms$Linear") (owner := "ConeForms$Node") (Or.inr ⟨_, _, rfl⟩) g_658 g_660 g_668 g_667 g_25 g_669 (Or.inl k_n659) y_52 (by decide)⟩, fun _ h => absurd h List.not_mem_nil⟩⟩⟩⟩
theorem y_53 : "ConeForms$Node" ≠ "java/lang/invoke/MethodHandle" ∧ "ConeForms$Node" ≠ "java/lang/invoke/VarHandle" ∧ (parseMethodDescriptor "()V").map (fun d => d.parameters.length) = some 0 := by decide +kernel
theorem c_62 : ∀ q ∈ vt_l.getD 43 [], ∃ y b mL r0, mi_l[q.2]? = some (y, b, mL, r0) ∧ sd_Callable "ConeForms" (.invokevirtual 180) 3 1 y b mL r0 (some q.1) := by
  show ∀ q ∈ [(5, 63), (6, 63), (7, 63), (8, 63)], _
  exact List.forall_mem_cons.mpr ⟨⟨⟨"ConeForms$Node", "judge", "()V"⟩, prog_6_method_11_code, 11, none, by rfl, sd_callV (C := "ConeForms$Leaf") (Or.inr ⟨_, _, rfl⟩) g_679 g_680 g_683 g_21 g_686 y_53 (by decide)⟩, List.forall_mem_cons.mpr ⟨⟨⟨"ConeForms$Node", "judge", "()V"⟩, prog_6_method_11_code, 11, none, by rfl, sd_callV (C := "ConeForms$Bend") (Or.inr ⟨_, _, rfl⟩) g_679 g_680 g_682 g_21 g_686 y_53 (by decide)⟩, List.forall_mem_cons.mpr ⟨⟨⟨"ConeForms$Node", "judge", "()V"⟩, prog_6_method_11_code, 11, none, by rfl, sd_callV (C := "ConeForms$Product") (Or.inr ⟨_, _, rfl⟩) g_679 g_680 g_685 g_21 g_686 y_53 (by decide)⟩, List.forall_mem_cons.mpr ⟨⟨⟨"ConeForms$Node", "judge", "()V"⟩, prog_6_method_11_code, 11, none, by rfl, sd_callV (C := "ConeForms$Linear") (Or.inr ⟨_, _, rfl⟩) g_679 g_680 g_684 g_21 g_686 y_53 (by decide)⟩, fun _ h => absurd h List.not_mem_nil⟩⟩⟩⟩
theorem y_54 : "ConeForms$Node" ≠ "java/lang/invoke/MethodHandle" ∧ "ConeForms$Node" ≠ "java/lang/invoke/VarHandle" ∧ (parseMethodDescriptor "()I").map (fun d => d.parameters.length) = some 0 := by decide +kernel
theorem c_63 : ∀ q ∈ vt_l.getD 44 [], ∃ y b mL r0, mi_l[q.2]? = some (y, b, mL, r0) ∧ sd_Callable "ConeForms" (.invokevirtual 183) 3 1 y b mL r0 (some q.1) := by
  show ∀ q ∈ [(5, 75), (6, 73), (7, 77), (8, 76)], _
  exact List.forall_mem_cons.mpr ⟨⟨⟨"ConeForms$Leaf", "compute", "()I"⟩, prog_4_method_3_code, 1, (some FieldType.int), by rfl, sd_callU (C := "ConeForms$Leaf") (owner := "ConeForms$Node") (Or.inr ⟨_, _, rfl⟩) g_735 g_737 g_746 g_745 g_22 g_747 (Or.inl k_n736) y_54 (by decide)⟩, List.forall_mem_cons.mpr ⟨⟨⟨"ConeForms$Bend", "compute", "()I"⟩, prog_2_method_3_code, 1, (some FieldType.int), by rfl, sd_callU (C := "ConeForms$Bend") (owner := "ConeForms$Node") (Or.inr ⟨_, _, rfl⟩) g_735 g_737 g_739 g_738 g_23 g_740 (Or.inl k_n736) y_54 (by decide)⟩, List.forall_mem_cons.mpr ⟨⟨⟨"ConeForms$Product", "compute", "()I"⟩, prog_7_method_3_code, 1, (some FieldType.int), by rfl, sd_callU (C := "ConeForms$Product") (owner := "ConeForms$Node") (Or.inr ⟨_, _, rfl⟩) g_735 g_737 g_752 g_751 g_24 g_753 (Or.inl k_n736) y_54 (by decide)⟩, List.forall_mem_cons.mpr ⟨⟨⟨"ConeForms$Linear", "compute", "()I"⟩, prog_5_method_3_code, 1, (some FieldType.int), by rfl, sd_callU (C := "ConeForms$Linear") (owner := "ConeForms$Node") (Or.inr ⟨_, _, rfl⟩) g_735 g_737 g_749 g_748 g_25 g_750 (Or.inl k_n736) y_54 (by decide)⟩, fun _ h => absurd h List.not_mem_nil⟩⟩⟩⟩
theorem y_55 : "java/util/ArrayList" ≠ "java/lang/invoke/MethodHandle" ∧ "java/util/ArrayList" ≠ "java/lang/invoke/VarHandle" ∧ (parseMethodDescriptor "(Ljava/lang/Object;)Z").map (fun d => d.parameters.length) = some 1 := by decide +kernel
theorem c_64 : ∀ q ∈ vt_l.getD 45 [], ∃ y b mL r0, mi_l[q.2]? = some (y, b, mL, r0) ∧ sd_Callable "ConeForms" (.invokevirtual 189) 3 2 y b mL r0 (some q.1) := by
  show ∀ q ∈ [(2, 78)], _
  exact List.forall_mem_cons.mpr ⟨⟨⟨"java/util/ArrayList", "add", "(Ljava/lang/Object;)Z"⟩, prog_26_method_25_code, 2, (some FieldType.boolean), by rfl, sd_callV (C := "java/util/ArrayList") (Or.inr ⟨_, _, rfl⟩) g_754 g_755 g_756 g_9 g_757 y_55 (by decide)⟩, fun _ h => absurd h List.not_mem_nil⟩
theorem y_56 : "ConeForms" ≠ "java/lang/invoke/MethodHandle" ∧ "ConeForms" ≠ "java/lang/invoke/VarHandle" ∧ (parseMethodDescriptor "(I)I").map (fun d => d.parameters.length) = some 1 := by decide +kernel
theorem c_65 : sd_Callable "ConeForms$Linear" (.invokestatic 38) 3 1 ⟨"ConeForms", "turned", "(I)I"⟩ prog_1_method_1_code 1 (some FieldType.int) none := sd_callSN k_n672 g_673 g_1 g_674 y_56 (by decide)
theorem c_66 : sd_Callable "ConeForms$Product" (.invokestatic 34) 3 1 ⟨"ConeForms", "turned", "(I)I"⟩ prog_1_method_1_code 1 (some FieldType.int) none := sd_callSN k_n678 g_673 g_1 g_674 y_56 (by decide)
theorem y_57 : "ConeForms$Node" ≠ "java/lang/invoke/MethodHandle" ∧ "ConeForms$Node" ≠ "java/lang/invoke/VarHandle" ∧ (parseMethodDescriptor "(I)LConeForms$Node;").map (fun d => d.parameters.length) = some 1 := by decide +kernel
theorem c_67 : ∀ q ∈ vt_l.getD 46 [], ∃ y b mL r0, mi_l[q.2]? = some (y, b, mL, r0) ∧ sd_Callable "ConeForms$Node" (.invokevirtual 40) 3 2 y b mL r0 (some q.1) := by
  show ∀ q ∈ [(5, 64), (6, 64), (7, 64), (8, 64)], _
  exact List.forall_mem_cons.mpr ⟨⟨⟨"ConeForms$Node", "argument", "(I)LConeForms$Node;"⟩, prog_6_method_9_code, 2, (some (FieldType.object "ConeForms$Node")), by rfl, sd_callV (C := "ConeForms$Leaf") (Or.inr ⟨_, _, rfl⟩) g_687 g_688 g_691 g_21 g_694 y_57 (by decide)⟩, List.forall_mem_cons.mpr ⟨⟨⟨"ConeForms$Node", "argument", "(I)LConeForms$Node;"⟩, prog_6_method_9_code, 2, (some (FieldType.object "ConeForms$Node")), by rfl, sd_callV (C := "ConeForms$Bend") (Or.inr ⟨_, _, rfl⟩) g_687 g_688 g_690 g_21 g_694 y_57 (by decide)⟩, List.forall_mem_cons.mpr ⟨⟨⟨"ConeForms$Node", "argument", "(I)LConeForms$Node;"⟩, prog_6_method_9_code, 2, (some (FieldType.object "ConeForms$Node")), by rfl, sd_callV (C := "ConeForms$Product") (Or.inr ⟨_, _, rfl⟩) g_687 g_688 g_693 g_21 g_694 y_57 (by decide)⟩, List.forall_mem_cons.mpr ⟨⟨⟨"ConeForms$Node", "argument", "(I)LConeForms$Node;"⟩, prog_6_method_9_code, 2, (some (FieldType.object "ConeForms$Node")), by rfl, sd_callV (C := "ConeForms$Linear") (Or.inr ⟨_, _, rfl⟩) g_687 g_688 g_692 g_21 g_694 y_57 (by decide)⟩, fun _ h => absurd h List.not_mem_nil⟩⟩⟩⟩
theorem y_58 : "ConeForms$Node" ≠ "java/lang/invoke/MethodHandle" ∧ "ConeForms$Node" ≠ "java/lang/invoke/VarHandle" ∧ (parseMethodDescriptor "(II)Z").map (fun d => d.parameters.length) = some 2 := by decide +kernel
theorem c_68 : ∀ q ∈ vt_l.getD 47 [], ∃ y b mL r0, mi_l[q.2]? = some (y, b, mL, r0) ∧ sd_Callable "ConeForms$Node" (.invokevirtual 54) 3 3 y b mL r0 (some q.1) := by
  show ∀ q ∈ [(5, 65), (6, 65), (7, 65), (8, 65)], _
  exact List.forall_mem_cons.mpr ⟨⟨⟨"ConeForms$Node", "admits", "(II)Z"⟩, prog_6_method_10_code, 5, (some FieldType.boolean), by rfl, sd_callV (C := "ConeForms$Leaf") (Or.inr ⟨_, _, rfl⟩) g_695 g_696 g_699 g_21 g_702 y_58 (by decide)⟩, List.forall_mem_cons.mpr ⟨⟨⟨"ConeForms$Node", "admits", "(II)Z"⟩, prog_6_method_10_code, 5, (some FieldType.boolean), by rfl, sd_callV (C := "ConeForms$Bend") (Or.inr ⟨_, _, rfl⟩) g_695 g_696 g_698 g_21 g_702 y_58 (by decide)⟩, List.forall_mem_cons.mpr ⟨⟨⟨"ConeForms$Node", "admits", "(II)Z"⟩, prog_6_method_10_code, 5, (some FieldType.boolean), by rfl, sd_callV (C := "ConeForms$Product") (Or.inr ⟨_, _, rfl⟩) g_695 g_696 g_701 g_21 g_702 y_58 (by decide)⟩, List.forall_mem_cons.mpr ⟨⟨⟨"ConeForms$Node", "admits", "(II)Z"⟩, prog_6_method_10_code, 5, (some FieldType.boolean), by rfl, sd_callV (C := "ConeForms$Linear") (Or.inr ⟨_, _, rfl⟩) g_695 g_696 g_700 g_21 g_702 y_58 (by decide)⟩, fun _ h => absurd h List.not_mem_nil⟩⟩⟩⟩
theorem y_59 : "ConeForms$Node" ≠ "java/lang/invoke/MethodHandle" ∧ "ConeForms$Node" ≠ "java/lang/invoke/VarHandle" ∧ (parseMethodDescriptor "()I").map (fun d => d.parameters.length) = some 0 := by decide +kernel
theorem c_69 : ∀ q ∈ vt_l.getD 48 [], ∃ y b mL r0, mi_l[q.2]? = some (y, b, mL, r0) ∧ sd_Callable "ConeForms$Node" (.invokevirtual 58) 3 1 y b mL r0 (some q.1) := by
  show ∀ q ∈ [(5, 72), (6, 72), (7, 71), (8, 72)], _
  exact List.forall_mem_cons.mpr ⟨⟨⟨"ConeForms$Node", "shape", "()I"⟩, prog_6_method_8_code, 1, (some FieldType.int), by rfl, sd_callV (C := "ConeForms$Leaf") (Or.inr ⟨_, _, rfl⟩) g_725 g_726 g_729 g_21 g_734 y_59 (by decide)⟩, List.forall_mem_cons.mpr ⟨⟨⟨"ConeForms$Node", "shape", "()I"⟩, prog_6_method_8_code, 1, (some FieldType.int), by rfl, sd_callV (C := "ConeForms$Bend") (Or.inr ⟨_, _, rfl⟩) g_725 g_726 g_728 g_21 g_734 y_59 (by decide)⟩, List.forall_mem_cons.mpr ⟨⟨⟨"ConeForms$Product", "shape", "()I"⟩, prog_7_method_6_code, 1, (some FieldType.int), by rfl, sd_callU (C := "ConeForms$Product") (owner := "ConeForms$Node") (Or.inr ⟨_, _, rfl⟩) g_725 g_727 g_732 g_731 g_24 g_733 (Or.inr ⟨g_726, _, _, _, g_734⟩) y_59 (by decide)⟩, List.forall_mem_cons.mpr ⟨⟨⟨"ConeForms$Node", "shape", "()I"⟩, prog_6_method_8_code, 1, (some FieldType.int), by rfl, sd_callV (C := "ConeForms$Linear") (Or.inr ⟨_, _, rfl⟩) g_725 g_726 g_730 g_21 g_734 y_59 (by decide)⟩, fun _ h => absurd h List.not_mem_nil⟩⟩⟩⟩
theorem y_60 : "ConeForms$Node" ≠ "java/lang/invoke/MethodHandle" ∧ "ConeForms$Node" ≠ "java/lang/invoke/VarHandle" ∧ (parseMethodDescriptor "(I)I").map (fun d => d.parameters.length) = some 1 := by decide +kernel
theorem c_70 : ∀ q ∈ vt_l.getD 49 [], ∃ y b mL r0, mi_l[q.2]? = some (y, b, mL, r0) ∧ sd_Callable "ConeForms$Node" (.invokevirtual 47) 3 2 y b mL r0 (some q.1) := by
  show ∀ q ∈ [(5, 68), (6, 66), (7, 70), (8, 69)], _
  exact List.forall_mem_cons.mpr ⟨⟨⟨"ConeForms$Leaf", "slope", "(I)I"⟩, prog_4_method_5_code, 2, (some FieldType.int), by rfl, sd_callU (C := "ConeForms$Leaf") (owner := "ConeForms$Node") (Or.inr ⟨_, _, rfl⟩) g_703 g_705 g_715 g_714 g_22 g_716 (Or.inl k_n704) y_60 (by decide)⟩, List.forall_mem_cons.mpr ⟨⟨⟨"ConeForms$Bend", "slope", "(I)I"⟩, prog_2_method_5_code, 2, (some FieldType.int), by rfl, sd_callU (C := "ConeForms$Bend") (owner := "ConeForms$Node") (Or.inr ⟨_, _, rfl⟩) g_703 g_705 g_707 g_706 g_23 g_708 (Or.inl k_n704) y_60 (by decide)⟩, List.forall_mem_cons.mpr ⟨⟨⟨"ConeForms$Product", "slope", "(I)I"⟩, prog_7_method_5_code, 2, (some FieldType.int), by rfl, sd_callU (C := "ConeForms$Product") (owner := "ConeForms$Node") (Or.inr ⟨_, _, rfl⟩) g_703 g_705 g_722 g_721 g_24 g_723 (Or.inl k_n704) y_60 (by decide)⟩, List.forall_mem_cons.mpr ⟨⟨⟨"ConeForms$Linear", "slope", "(I)I"⟩, prog_5_method_5_code, 2, (some FieldType.int), by rfl, sd_callU (C := "ConeForms$Linear") (owner := "ConeForms$Node") (Or.inr ⟨_, _, rfl⟩) g_703 g_705 g_718 g_717 g_25 g_719 (Or.inl k_n704) y_60 (by decide)⟩, fun _ h => absurd h List.not_mem_nil⟩⟩⟩⟩
theorem y_61 : "ConeForms" ≠ "java/lang/invoke/MethodHandle" ∧ "ConeForms" ≠ "java/lang/invoke/VarHandle" ∧ (parseMethodDescriptor "(I)I").map (fun d => d.parameters.length) = some 1 := by decide +kernel
theorem c_71 : sd_Callable "ConeForms$Bend" (.invokestatic 60) 3 1 ⟨"ConeForms", "upOrDown", "(I)I"⟩ prog_1_method_2_code 1 (some FieldType.int) none := sd_callSN k_n711 g_712 g_1 g_713 y_61 (by decide)
theorem c_72 : sd_Callable "ConeForms$Product" (.invokestatic 38) 3 1 ⟨"ConeForms", "upOrDown", "(I)I"⟩ prog_1_method_2_code 1 (some FieldType.int) none := sd_callSN k_n724 g_712 g_1 g_713 y_61 (by decide)
theorem c_73 : sd_Callable "ConeForms$Bend" (.invokestatic 44) 3 2 ⟨"java/lang/Math", "min", "(II)I"⟩ prog_18_method_69_code 2 (some FieldType.int) none := sd_callS g_741 g_256 g_13 g_257 y_18 (by decide)
theorem y_62 : "java/lang/Math" ≠ "java/lang/invoke/MethodHandle" ∧ "java/lang/Math" ≠ "java/lang/invoke/VarHandle" ∧ (parseMethodDescriptor "(I)I").map (fun d => d.parameters.length) = some 1 := by decide +kernel
theorem c_74 : sd_Callable "ConeForms$Bend" (.invokestatic 47) 3 1 ⟨"java/lang/Math", "abs", "(I)I"⟩ prog_18_method_59_code 1 (some FieldType.int) none := sd_callS g_742 g_743 g_13 g_744 y_62 (by decide)
theorem sl_57 : Cond.selects "java/util/ArrayList" ⟨"java/util/ArrayList", "add", "(Ljava/lang/Object;[Ljava/lang/Object;I)V"⟩ ⟨"java/util/ArrayList", "add", "(Ljava/lang/Object;[Ljava/lang/Object;I)V"⟩ ∈ gws := gmp (List.mem_map.mpr ⟨(⟨"java/util/ArrayList", "add", "(Ljava/lang/Object;[Ljava/lang/Object;I)V"⟩, 3), List.mem_of_getElem? (i := 10) (by decide +kernel), rfl⟩) rfl
theorem y_63 : "java/util/ArrayList" ≠ "java/lang/invoke/MethodHandle" ∧ "java/util/ArrayList" ≠ "java/lang/invoke/VarHandle" ∧ (parseMethodDescriptor "(Ljava/lang/Object;[Ljava/lang/Object;I)V").map (fun d => d.parameters.length) = some 3 := by decide +kernel
theorem c_75 : ∀ q ∈ vt_l.getD 50 [], ∃ y b mL r0, mi_l[q.2]? = some (y, b, mL, r0) ∧ sd_Callable "java/util/ArrayList" (.invokevirtual 131) 3 4 y b mL r0 (some q.1) := by
  show ∀ q ∈ [(2, 79)], _
  exact List.forall_mem_cons.mpr ⟨⟨⟨"java/util/ArrayList", "add", "(Ljava/lang/Object;[Ljava/lang/Object;I)V"⟩, prog_26_method_24_code, 4, none, by rfl, sd_callV (C := "java/util/ArrayList") (Or.inr ⟨_, _, rfl⟩) g_758 g_760 sl_57 g_9 g_761 y_63 (by decide)⟩, fun _ h => absurd h List.not_mem_nil⟩
theorem sl_58 : Cond.selects "java/util/ArrayList" ⟨"java/util/ArrayList", "grow", "()[Ljava/lang/Object;"⟩ ⟨"java/util/ArrayList", "grow", "()[Ljava/lang/Object;"⟩ ∈ gws := gmp (List.mem_map.mpr ⟨(⟨"java/util/ArrayList", "grow", "()[Ljava/lang/Object;"⟩, 3), List.mem_of_getElem? (i := 11) (by decide +kernel), rfl⟩) rfl
theorem y_64 : "java/util/ArrayList" ≠ "java/lang/invoke/MethodHandle" ∧ "java/util/ArrayList" ≠ "java/lang/invoke/VarHandle" ∧ (parseMethodDescriptor "()[Ljava/lang/Object;").map (fun d => d.parameters.length) = some 0 := by decide +kernel
theorem c_76 : ∀ q ∈ vt_l.getD 51 [], ∃ y b mL r0, mi_l[q.2]? = some (y, b, mL, r0) ∧ sd_Callable "java/util/ArrayList" (.invokevirtual 129) 3 1 y b mL r0 (some q.1) := by
  show ∀ q ∈ [(2, 80)], _
  exact List.forall_mem_cons.mpr ⟨⟨⟨"java/util/ArrayList", "grow", "()[Ljava/lang/Object;"⟩, prog_26_method_7_code, 1, (some (FieldType.array (FieldType.object "java/lang/Object"))), by rfl, sd_callV (C := "java/util/ArrayList") (Or.inr ⟨_, _, rfl⟩) g_762 g_764 sl_58 g_9 g_765 y_64 (by decide)⟩, fun _ h => absurd h List.not_mem_nil⟩
theorem sl_59 : Cond.selects "java/util/ArrayList" ⟨"java/util/ArrayList", "grow", "(I)[Ljava/lang/Object;"⟩ ⟨"java/util/ArrayList", "grow", "(I)[Ljava/lang/Object;"⟩ ∈ gws := gmp (List.mem_map.mpr ⟨(⟨"java/util/ArrayList", "grow", "(I)[Ljava/lang/Object;"⟩, 3), List.mem_of_getElem? (i := 12) (by decide +kernel), rfl⟩) rfl
theorem y_65 : "java/util/ArrayList" ≠ "java/lang/invoke/MethodHandle" ∧ "java/util/ArrayList" ≠ "java/lang/invoke/VarHandle" ∧ (parseMethodDescriptor "(I)[Ljava/lang/Object;").map (fun d => d.parameters.length) = some 1 := by decide +kernel
theorem c_77 : ∀ q ∈ vt_l.getD 52 [], ∃ y b mL r0, mi_l[q.2]? = some (y, b, mL, r0) ∧ sd_Callable "java/util/ArrayList" (.invokevirtual 69) 3 2 y b mL r0 (some q.1) := by
  show ∀ q ∈ [(2, 81)], _
  exact List.forall_mem_cons.mpr ⟨⟨⟨"java/util/ArrayList", "grow", "(I)[Ljava/lang/Object;"⟩, prog_26_method_6_code, 4, (some (FieldType.array (FieldType.object "java/lang/Object"))), by rfl, sd_callV (C := "java/util/ArrayList") (Or.inr ⟨_, _, rfl⟩) g_766 g_768 sl_59 g_9 g_769 y_65 (by decide)⟩, fun _ h => absurd h List.not_mem_nil⟩
theorem c_78 : sd_Callable "java/util/ArrayList" (.invokestatic 73) 3 3 ⟨"jdk/internal/util/ArraysSupport", "newLength", "(III)I"⟩ prog_35_method_27_code 4 (some FieldType.int) none := sd_callS g_770 g_235 g_12 g_236 y_16 (by decide)
theorem y_66 : "java/util/Arrays" ≠ "java/lang/invoke/MethodHandle" ∧ "java/util/Arrays" ≠ "java/lang/invoke/VarHandle" ∧ (parseMethodDescriptor "([Ljava/lang/Object;I)[Ljava/lang/Object;").map (fun d => d.parameters.length) = some 2 := by decide +kernel
theorem c_79 : sd_Callable "java/util/ArrayList" (.invokestatic 66) 3 2 ⟨"java/util/Arrays", "copyOf", "([Ljava/lang/Object;I)[Ljava/lang/Object;"⟩ prog_28_method_119_code 2 (some (FieldType.array (FieldType.object "java/lang/Object"))) none := sd_callS g_771 g_772 g_14 g_773 y_66 (by decide)
theorem c_80 : sd_Callable "java/util/ArrayList" (.invokestatic 79) 3 2 ⟨"java/lang/Math", "max", "(II)I"⟩ prog_18_method_65_code 2 (some FieldType.int) none := sd_callS g_797 g_238 g_13 g_239 y_17 (by decide)
theorem y_67 : "java/util/Arrays" ≠ "java/lang/invoke/MethodHandle" ∧ "java/util/Arrays" ≠ "java/lang/invoke/VarHandle" ∧ (parseMethodDescriptor "([Ljava/lang/Object;ILjava/lang/Class;)[Ljava/lang/Object;").map (fun d => d.parameters.length) = some 3 := by decide +kernel
theorem c_81 : sd_Callable "java/util/Arrays" (.invokestatic 300) 3 3 ⟨"java/util/Arrays", "copyOf", "([Ljava/lang/Object;ILjava/lang/Class;)[Ljava/lang/Object;"⟩ prog_28_method_120_code 4 (some (FieldType.array (FieldType.object "java/lang/Object"))) none := sd_callS g_791 g_792 g_14 g_793 y_67 (by decide)
theorem sl_60 : Cond.selects "java/util/ArrayList" ⟨"java/util/ArrayList", "fastRemove", "([Ljava/lang/Object;I)V"⟩ ⟨"java/util/ArrayList", "fastRemove", "([Ljava/lang/Object;I)V"⟩ ∈ gws := gmp (List.mem_map.mpr ⟨(⟨"java/util/ArrayList", "fastRemove", "([Ljava/lang/Object;I)V"⟩, 3), List.mem_of_getElem? (i := 13) (by decide +kernel), rfl⟩) rfl
theorem y_68 : "java/util/ArrayList" ≠ "java/lang/invoke/MethodHandle" ∧ "java/util/ArrayList" ≠ "java/lang/invoke/VarHandle" ∧ (parseMethodDescriptor "([Ljava/lang/Object;I)V").map (fun d => d.parameters.length) = some 2 := by decide +kernel
theorem c_82 : ∀ q ∈ vt_l.getD 53 [], ∃ y b mL r0, mi_l[q.2]? = some (y, b, mL, r0) ∧ sd_Callable "java/util/ArrayList" (.invokevirtual 144) 3 3 y b mL r0 (some q.1) := by
  show ∀ q ∈ [(2, 85)], _
  exact List.forall_mem_cons.mpr ⟨⟨⟨"java/util/ArrayList", "fastRemove", "([Ljava/lang/Object;I)V"⟩, prog_26_method_39_code, 4, none, by rfl, sd_callV (C := "java/util/ArrayList") (Or.inr ⟨_, _, rfl⟩) g_803 g_805 sl_60 g_9 g_806 y_68 (by decide)⟩, fun _ h => absurd h List.not_mem_nil⟩
theorem sl_61 : Cond.selects "ConeForms" ⟨"ConeForms", "node", "(I)LConeForms$Node;"⟩ ⟨"ConeForms", "node", "(I)LConeForms$Node;"⟩ ∈ gws := gmp (List.mem_map.mpr ⟨(⟨"ConeForms", "node", "(I)LConeForms$Node;"⟩, 17), List.mem_of_getElem? (i := 14) (by decide +kernel), rfl⟩) rfl
theorem y_69 : "ConeForms" ≠ "java/lang/invoke/MethodHandle" ∧ "ConeForms" ≠ "java/lang/invoke/VarHandle" ∧ (parseMethodDescriptor "(I)LConeForms$Node;").map (fun d => d.parameters.length) = some 1 := by decide +kernel
theorem c_83 : ∀ q ∈ vt_l.getD 54 [], ∃ y b mL r0, mi_l[q.2]? = some (y, b, mL, r0) ∧ sd_Callable "ConeForms" (.invokevirtual 193) 3 2 y b mL r0 (some q.1) := by
  show ∀ q ∈ [(4, 88)], _
  exact List.forall_mem_cons.mpr ⟨⟨⟨"ConeForms", "node", "(I)LConeForms$Node;"⟩, prog_1_method_11_code, 2, (some (FieldType.object "ConeForms$Node")), by rfl, sd_callV (C := "ConeForms") (Or.inr ⟨_, _, rfl⟩) g_816 g_818 sl_61 g_1 g_819 y_69 (by decide)⟩, fun _ h => absurd h List.not_mem_nil⟩
theorem y_70 : "ConeForms" ≠ "java/lang/invoke/MethodHandle" ∧ "ConeForms" ≠ "java/lang/invoke/VarHandle" ∧ (parseMethodDescriptor "(II)Z").map (fun d => d.parameters.length) = some 2 := by decide +kernel
theorem c_84 : sd_Callable "ConeForms" (.invokestatic 207) 3 2 ⟨"ConeForms", "within", "(II)Z"⟩ prog_1_method_16_code 2 (some FieldType.boolean) none := sd_callS g_833 g_834 g_1 g_835 y_70 (by decide)
theorem sl_62 : Cond.selects "ConeForms" ⟨"ConeForms", "fill", "()V"⟩ ⟨"ConeForms", "fill", "()V"⟩ ∈ gws := gmp (List.mem_map.mpr ⟨(⟨"ConeForms", "fill", "()V"⟩, 17), List.mem_of_getElem? (i := 15) (by decide +kernel), rfl⟩) rfl
theorem y_71 : "ConeForms" ≠ "java/lang/invoke/MethodHandle" ∧ "ConeForms" ≠ "java/lang/invoke/VarHandle" ∧ (parseMethodDescriptor "()V").map (fun d => d.parameters.length) = some 0 := by decide +kernel
theorem c_85 : ∀ q ∈ vt_l.getD 55 [], ∃ y b mL r0, mi_l[q.2]? = some (y, b, mL, r0) ∧ sd_Callable "ConeForms" (.invokevirtual 223) 3 1 y b mL r0 (some q.1) := by
  show ∀ q ∈ [(4, 93)], _
  exact List.forall_mem_cons.mpr ⟨⟨⟨"ConeForms", "fill", "()V"⟩, prog_1_method_31_code, 3, none, by rfl, sd_callV (C := "ConeForms") (Or.inr ⟨_, _, rfl⟩) g_838 g_840 sl_62 g_1 g_841 y_71 (by decide)⟩, fun _ h => absurd h List.not_mem_nil⟩
theorem y_72 : "ConeForms$Node" ≠ "java/lang/invoke/MethodHandle" ∧ "ConeForms$Node" ≠ "java/lang/invoke/VarHandle" ∧ (parseMethodDescriptor "(LConeForms$Table;)V").map (fun d => d.parameters.length) = some 1 := by decide +kernel
theorem c_86 : ∀ q ∈ vt_l.getD 56 [], ∃ y b mL r0, mi_l[q.2]? = some (y, b, mL, r0) ∧ sd_Callable "ConeForms" (.invokevirtual 300) 3 2 y b mL r0 (some q.1) := by
  show ∀ q ∈ [(5, 94), (6, 94), (7, 94), (8, 94)], _
  exact List.forall_mem_cons.mpr ⟨⟨⟨"ConeForms$Node", "expansion", "(LConeForms$Table;)V"⟩, prog_6_method_12_code, 2, none, by rfl, sd_callV (C := "ConeForms$Leaf") (Or.inr ⟨_, _, rfl⟩) g_842 g_843 g_846 g_21 g_849 y_72 (by decide)⟩, List.forall_mem_cons.mpr ⟨⟨⟨"ConeForms$Node", "expansion", "(LConeForms$Table;)V"⟩, prog_6_method_12_code, 2, none, by rfl, sd_callV (C := "ConeForms$Bend") (Or.inr ⟨_, _, rfl⟩) g_842 g_843 g_845 g_21 g_849 y_72 (by decide)⟩, List.forall_mem_cons.mpr ⟨⟨⟨"ConeForms$Node", "expansion", "(LConeForms$Table;)V"⟩, prog_6_method_12_code, 2, none, by rfl, sd_callV (C := "ConeForms$Product") (Or.inr ⟨_, _, rfl⟩) g_842 g_843 g_848 g_21 g_849 y_72 (by decide)⟩, List.forall_mem_cons.mpr ⟨⟨⟨"ConeForms$Node", "expansion", "(LConeForms$Table;)V"⟩, prog_6_method_12_code, 2, none, by rfl, sd_callV (C := "ConeForms$Linear") (Or.inr ⟨_, _, rfl⟩) g_842 g_843 g_847 g_21 g_849 y_72 (by decide)⟩, fun _ h => absurd h List.not_mem_nil⟩⟩⟩⟩
theorem y_73 : "ConeForms$Table" ≠ "java/lang/invoke/MethodHandle" ∧ "ConeForms$Table" ≠ "java/lang/invoke/VarHandle" ∧ (parseMethodDescriptor "(I)V").map (fun d => d.parameters.length) = some 1 := by decide +kernel
theorem c_87 : ∀ q ∈ vt_l.getD 57 [], ∃ y b mL r0, mi_l[q.2]? = some (y, b, mL, r0) ∧ sd_Callable "ConeForms" (.invokevirtual 292) 3 2 y b mL r0 (some q.1) := by
  show ∀ q ∈ [(3, 95)], _
  exact List.forall_mem_cons.mpr ⟨⟨⟨"ConeForms$Table", "clear", "(I)V"⟩, prog_10_method_2_code, 3, none, by rfl, sd_callV (C := "ConeForms$Table") (Or.inr ⟨_, _, rfl⟩) g_880 g_851 g_852 g_10 g_853 y_73 (by decide)⟩, fun _ h => absurd h List.not_mem_nil⟩
theorem y_74 : "ConeForms$Table" ≠ "java/lang/invoke/MethodHandle" ∧ "ConeForms$Table" ≠ "java/lang/invoke/VarHandle" ∧ (parseMethodDescriptor "(ILConeForms$Table;II)V").map (fun d => d.parameters.length) = some 4 := by decide +kernel
theorem c_88 : ∀ q ∈ vt_l.getD 58 [], ∃ y b mL r0, mi_l[q.2]? = some (y, b, mL, r0) ∧ sd_Callable "ConeForms" (.invokevirtual 297) 3 5 y b mL r0 (some q.1) := by
  show ∀ q ∈ [(3, 100)], _
  exact List.forall_mem_cons.mpr ⟨⟨⟨"ConeForms$Table", "add", "(ILConeForms$Table;II)V"⟩, prog_10_method_5_code, 6, none, by rfl, sd_callV (C := "ConeForms$Table") (Or.inr ⟨_, _, rfl⟩) g_881 g_873 g_874 g_10 g_875 y_74 (by decide)⟩, fun _ h => absurd h List.not_mem_nil⟩
theorem sl_69 : Cond.selects "ConeForms" ⟨"ConeForms", "row", "(LConeForms$Node;ILConeForms$Node;ILConeForms$Node;II)V"⟩ ⟨"ConeForms", "row", "(LConeForms$Node;ILConeForms$Node;ILConeForms$Node;II)V"⟩ ∈ gws := gmp (List.mem_map.mpr ⟨(⟨"ConeForms", "row", "(LConeForms$Node;ILConeForms$Node;ILConeForms$Node;II)V"⟩, 17), List.mem_of_getElem? (i := 16) (by decide +kernel), rfl⟩) rfl
theorem y_75 : "ConeForms" ≠ "java/lang/invoke/MethodHandle" ∧ "ConeForms" ≠ "java/lang/invoke/VarHandle" ∧ (parseMethodDescriptor "(LConeForms$Node;ILConeForms$Node;ILConeForms$Node;II)V").map (fun d => d.parameters.length) = some 7 := by decide +kernel
theorem c_89 : ∀ q ∈ vt_l.getD 59 [], ∃ y b mL r0, mi_l[q.2]? = some (y, b, mL, r0) ∧ sd_Callable "ConeForms" (.invokevirtual 304) 3 8 y b mL r0 (some q.1) := by
  show ∀ q ∈ [(4, 102)], _
  exact List.forall_mem_cons.mpr ⟨⟨⟨"ConeForms", "row", "(LConeForms$Node;ILConeForms$Node;ILConeForms$Node;II)V"⟩, prog_1_method_30_code, 8, none, by rfl, sd_callV (C := "ConeForms") (Or.inr ⟨_, _, rfl⟩) g_882 g_884 sl_69 g_1 g_885 y_75 (by decide)⟩, fun _ h => absurd h List.not_mem_nil⟩
theorem sl_70 : Cond.selects "ConeForms" ⟨"ConeForms", "plain", "(LConeForms$Node;)V"⟩ ⟨"ConeForms", "plain", "(LConeForms$Node;)V"⟩ ∈ gws := gmp (List.mem_map.mpr ⟨(⟨"ConeForms", "plain", "(LConeForms$Node;)V"⟩, 17), List.mem_of_getElem? (i := 17) (by decide +kernel), rfl⟩) rfl
theorem y_76 : "ConeForms" ≠ "java/lang/invoke/MethodHandle" ∧ "ConeForms" ≠ "java/lang/invoke/VarHandle" ∧ (parseMethodDescriptor "(LConeForms$Node;)V").map (fun d => d.parameters.length) = some 1 := by decide +kernel
theorem c_90 : ∀ q ∈ vt_l.getD 60 [], ∃ y b mL r0, mi_l[q.2]? = some (y, b, mL, r0) ∧ sd_Callable "ConeForms" (.invokevirtual 311) 3 2 y b mL r0 (some q.1) := by
  show ∀ q ∈ [(4, 103)], _
  exact List.forall_mem_cons.mpr ⟨⟨⟨"ConeForms", "plain", "(LConeForms$Node;)V"⟩, prog_1_method_32_code, 3, none, by rfl, sd_callV (C := "ConeForms") (Or.inr ⟨_, _, rfl⟩) g_886 g_888 sl_70 g_1 g_889 y_76 (by decide)⟩, fun _ h => absurd h List.not_mem_nil⟩
theorem c_91 : ∀ q ∈ vt_l.getD 57 [], ∃ y b mL r0, mi_l[q.2]? = some (y, b, mL, r0) ∧ sd_Callable "ConeForms$Node" (.invokevirtual 68) 3 2 y b mL r0 (some q.1) := by
  show ∀ q ∈ [(3, 95)], _
  exact List.forall_mem_cons.mpr ⟨⟨⟨"ConeForms$Table", "clear", "(I)V"⟩, prog_10_method_2_code, 3, none, by rfl, sd_callV (C := "ConeForms$Table") (Or.inr ⟨_, _, rfl⟩) g_850 g_851 g_852 g_10 g_853 y_73 (by decide)⟩, fun _ h => absurd h List.not_mem_nil⟩
theorem y_77 : "ConeForms$Node" ≠ "java/lang/invoke/MethodHandle" ∧ "ConeForms$Node" ≠ "java/lang/invoke/VarHandle" ∧ (parseMethodDescriptor "(LConeForms$Table;)V").map (fun d => d.parameters.length) = some 1 := by decide +kernel
theorem c_92 : ∀ q ∈ vt_l.getD 61 [], ∃ y b mL r0, mi_l[q.2]? = some (y, b, mL, r0) ∧ sd_Callable "ConeForms$Node" (.invokevirtual 78) 3 2 y b mL r0 (some q.1) := by
  show ∀ q ∈ [(5, 98), (6, 96), (7, 101), (8, 99)], _
  exact List.forall_mem_cons.mpr ⟨⟨⟨"ConeForms$Leaf", "expand", "(LConeForms$Table;)V"⟩, prog_4_method_6_code, 2, none, by rfl, sd_callU (C := "ConeForms$Leaf") (owner := "ConeForms$Node") (Or.inr ⟨_, _, rfl⟩) g_854 g_856 g_865 g_864 g_22 g_866 (Or.inl k_n855) y_77 (by decide)⟩, List.forall_mem_cons.mpr ⟨⟨⟨"ConeForms$Bend", "expand", "(LConeForms$Table;)V"⟩, prog_2_method_6_code, 2, none, by rfl, sd_callU (C := "ConeForms$Bend") (owner := "ConeForms$Node") (Or.inr ⟨_, _, rfl⟩) g_854 g_856 g_858 g_857 g_23 g_859 (Or.inl k_n855) y_77 (by decide)⟩, List.forall_mem_cons.mpr ⟨⟨⟨"ConeForms$Product", "expand", "(LConeForms$Table;)V"⟩, prog_7_method_7_code, 2, none, by rfl, sd_callU (C := "ConeForms$Product") (owner := "ConeForms$Node") (Or.inr ⟨_, _, rfl⟩) g_854 g_856 g_877 g_876 g_24 g_878 (Or.inl k_n855) y_77 (by decide)⟩, List.forall_mem_cons.mpr ⟨⟨⟨"ConeForms$Linear", "expand", "(LConeForms$Table;)V"⟩, prog_5_method_6_code, 2, none, by rfl, sd_callU (C := "ConeForms$Linear") (owner := "ConeForms$Node") (Or.inr ⟨_, _, rfl⟩) g_854 g_856 g_869 g_868 g_25 g_870 (Or.inl k_n855) y_77 (by decide)⟩, fun _ h => absurd h List.not_mem_nil⟩⟩⟩⟩
theorem y_78 : "ConeForms$Table" ≠ "java/lang/invoke/MethodHandle" ∧ "ConeForms$Table" ≠ "java/lang/invoke/VarHandle" ∧ (parseMethodDescriptor "(III)V").map (fun d => d.parameters.length) = some 3 := by decide +kernel
theorem c_93 : ∀ q ∈ vt_l.getD 62 [], ∃ y b mL r0, mi_l[q.2]? = some (y, b, mL, r0) ∧ sd_Callable "ConeForms$Bend" (.invokevirtual 66) 3 4 y b mL r0 (some q.1) := by
  show ∀ q ∈ [(3, 97)], _
  exact List.forall_mem_cons.mpr ⟨⟨⟨"ConeForms$Table", "put", "(III)V"⟩, prog_10_method_3_code, 4, none, by rfl, sd_callV (C := "ConeForms$Table") (Or.inr ⟨_, _, rfl⟩) g_860 g_861 g_862 g_10 g_863 y_78 (by decide)⟩, fun _ h => absurd h List.not_mem_nil⟩
theorem c_94 : ∀ q ∈ vt_l.getD 62 [], ∃ y b mL r0, mi_l[q.2]? = some (y, b, mL, r0) ∧ sd_Callable "ConeForms$Leaf" (.invokevirtual 43) 3 4 y b mL r0 (some q.1) := by
  show ∀ q ∈ [(3, 97)], _
  exact List.forall_mem_cons.mpr ⟨⟨⟨"ConeForms$Table", "put", "(III)V"⟩, prog_10_method_3_code, 4, none, by rfl, sd_callV (C := "ConeForms$Table") (Or.inr ⟨_, _, rfl⟩) g_867 g_861 g_862 g_10 g_863 y_78 (by decide)⟩, fun _ h => absurd h List.not_mem_nil⟩
theorem y_79 : "ConeForms$Linear" ≠ "java/lang/invoke/MethodHandle" ∧ "ConeForms$Linear" ≠ "java/lang/invoke/VarHandle" ∧ (parseMethodDescriptor "(I)I").map (fun d => d.parameters.length) = some 1 := by decide +kernel
theorem c_95 : ∀ q ∈ vt_l.getD 63 [], ∃ y b mL r0, mi_l[q.2]? = some (y, b, mL, r0) ∧ sd_Callable "ConeForms$Linear" (.invokevirtual 51) 3 2 y b mL r0 (some q.1) := by
  show ∀ q ∈ [(8, 69)], _
  exact List.forall_mem_cons.mpr ⟨⟨⟨"ConeForms$Linear", "slope", "(I)I"⟩, prog_5_method_5_code, 2, (some FieldType.int), by rfl, sd_callV (C := "ConeForms$Linear") (Or.inr ⟨_, _, rfl⟩) g_871 g_718 g_1442 g_25 g_719 y_79 (by decide)⟩, fun _ h => absurd h List.not_mem_nil⟩
theorem c_96 : ∀ q ∈ vt_l.getD 58 [], ∃ y b mL r0, mi_l[q.2]? = some (y, b, mL, r0) ∧ sd_Callable "ConeForms$Linear" (.invokevirtual 54) 3 5 y b mL r0 (some q.1) := by
  show ∀ q ∈ [(3, 100)], _
  exact List.forall_mem_cons.mpr ⟨⟨⟨"ConeForms$Table", "add", "(ILConeForms$Table;II)V"⟩, prog_10_method_5_code, 6, none, by rfl, sd_callV (C := "ConeForms$Table") (Or.inr ⟨_, _, rfl⟩) g_872 g_873 g_874 g_10 g_875 y_74 (by decide)⟩, fun _ h => absurd h List.not_mem_nil⟩
theorem c_97 : ∀ q ∈ vt_l.getD 58 [], ∃ y b mL r0, mi_l[q.2]? = some (y, b, mL, r0) ∧ sd_Callable "ConeForms$Product" (.invokevirtual 48) 3 5 y b mL r0 (some q.1) := by
  show ∀ q ∈ [(3, 100)], _
  exact List.forall_mem_cons.mpr ⟨⟨⟨"ConeForms$Table", "add", "(ILConeForms$Table;II)V"⟩, prog_10_method_5_code, 6, none, by rfl, sd_callV (C := "ConeForms$Table") (Or.inr ⟨_, _, rfl⟩) g_879 g_873 g_874 g_10 g_875 y_74 (by decide)⟩, fun _ h => absurd h List.not_mem_nil⟩
theorem c_98 : ∀ q ∈ vt_l.getD 41 [], ∃ y b mL r0, mi_l[q.2]? = some (y, b, mL, r0) ∧ sd_Callable "ConeForms" (.invokevirtual 320) 3 1 y b mL r0 (some q.1) := by
  show ∀ q ∈ [(12, 53)], _
  exact List.forall_mem_cons.mpr ⟨⟨⟨"java/lang/Enum", "ordinal", "()I"⟩, prog_16_method_2_code, 1, (some FieldType.int), by rfl, sd_callU (C := "ConeForms$Kind") (owner := "java/lang/Enum") (Or.inl ⟨rfl, rfl⟩) g_890 g_634 g_637 g_636 g_18 g_638 (Or.inl k_n635) y_51 (by decide)⟩, fun _ h => absurd h List.not_mem_nil⟩
theorem sl_77 : Cond.selects "ConeForms" ⟨"ConeForms", "culpritOf", "(LConeForms$Node;)LConeForms$Node;"⟩ ⟨"ConeForms", "culpritOf", "(LConeForms$Node;)LConeForms$Node;"⟩ ∈ gws := gmp (List.mem_map.mpr ⟨(⟨"ConeForms", "culpritOf", "(LConeForms$Node;)LConeForms$Node;"⟩, 17), List.mem_of_getElem? (i := 18) (by decide +kernel), rfl⟩) rfl
theorem y_80 : "ConeForms" ≠ "java/lang/invoke/MethodHandle" ∧ "ConeForms" ≠ "java/lang/invoke/VarHandle" ∧ (parseMethodDescriptor "(LConeForms$Node;)LConeForms$Node;").map (fun d => d.parameters.length) = some 1 := by decide +kernel
theorem c_99 : ∀ q ∈ vt_l.getD 64 [], ∃ y b mL r0, mi_l[q.2]? = some (y, b, mL, r0) ∧ sd_Callable "ConeForms" (.invokevirtual 233) 3 2 y b mL r0 (some q.1) := by
  show ∀ q ∈ [(4, 105)], _
  exact List.forall_mem_cons.mpr ⟨⟨⟨"ConeForms", "culpritOf", "(LConeForms$Node;)LConeForms$Node;"⟩, prog_1_method_19_code, 3, (some (FieldType.object "ConeForms$Node")), by rfl, sd_callV (C := "ConeForms") (Or.inr ⟨_, _, rfl⟩) g_897 g_899 sl_77 g_1 g_900 y_80 (by decide)⟩, fun _ h => absurd h List.not_mem_nil⟩
theorem y_81 : "ConeForms" ≠ "java/lang/invoke/MethodHandle" ∧ "ConeForms" ≠ "java/lang/invoke/VarHandle" ∧ (parseMethodDescriptor "(LConeForms$Node;I)LConeForms$Node;").map (fun d => d.parameters.length) = some 2 := by decide +kernel
theorem c_100 : sd_Callable "ConeForms" (.invokestatic 229) 3 2 ⟨"ConeForms", "offender", "(LConeForms$Node;I)LConeForms$Node;"⟩ prog_1_method_18_code 3 (some (FieldType.object "ConeForms$Node")) none := sd_callS g_901 g_902 g_1 g_903 y_81 (by decide)
theorem sl_78 : Cond.selects "ConeForms" ⟨"ConeForms", "drop", "()V"⟩ ⟨"ConeForms", "drop", "()V"⟩ ∈ gws := gmp (List.mem_map.mpr ⟨(⟨"ConeForms", "drop", "()V"⟩, 17), List.mem_of_getElem? (i := 19) (by decide +kernel), rfl⟩) rfl
theorem y_82 : "ConeForms" ≠ "java/lang/invoke/MethodHandle" ∧ "ConeForms" ≠ "java/lang/invoke/VarHandle" ∧ (parseMethodDescriptor "()V").map (fun d => d.parameters.length) = some 0 := by decide +kernel
theorem c_101 : ∀ q ∈ vt_l.getD 65 [], ∃ y b mL r0, mi_l[q.2]? = some (y, b, mL, r0) ∧ sd_Callable "ConeForms" (.invokevirtual 249) 3 1 y b mL r0 (some q.1) := by
  show ∀ q ∈ [(4, 108)], _
  exact List.forall_mem_cons.mpr ⟨⟨⟨"ConeForms", "drop", "()V"⟩, prog_1_method_21_code, 3, none, by rfl, sd_callV (C := "ConeForms") (Or.inr ⟨_, _, rfl⟩) g_908 g_910 sl_78 g_1 g_911 y_82 (by decide)⟩, fun _ h => absurd h List.not_mem_nil⟩
theorem y_83 : "java/util/ArrayList" ≠ "java/lang/invoke/MethodHandle" ∧ "java/util/ArrayList" ≠ "java/lang/invoke/VarHandle" ∧ (parseMethodDescriptor "()V").map (fun d => d.parameters.length) = some 0 := by decide +kernel
theorem c_102 : ∀ q ∈ vt_l.getD 66 [], ∃ y b mL r0, mi_l[q.2]? = some (y, b, mL, r0) ∧ sd_Callable "ConeForms" (.invokevirtual 237) 3 1 y b mL r0 (some q.1) := by
  show ∀ q ∈ [(2, 109)], _
  exact List.forall_mem_cons.mpr ⟨⟨⟨"java/util/ArrayList", "clear", "()V"⟩, prog_26_method_40_code, 4, none, by rfl, sd_callV (C := "java/util/ArrayList") (Or.inr ⟨_, _, rfl⟩) g_912 g_913 g_914 g_9 g_915 y_83 (by decide)⟩, fun _ h => absurd h List.not_mem_nil⟩
theorem y_84 : "ConeForms$Requirement" ≠ "java/lang/invoke/MethodHandle" ∧ "ConeForms$Requirement" ≠ "java/lang/invoke/VarHandle" ∧ (parseMethodDescriptor "(ZLConeForms$Node;LConeForms$Node;)V").map (fun d => d.parameters.length) = some 3 := by decide +kernel
theorem c_103 : ∀ q ∈ vt_l.getD 67 [], ∃ y b mL r0, mi_l[q.2]? = some (y, b, mL, r0) ∧ sd_Callable "ConeForms" (.invokespecial 257) 3 4 y b mL r0 (some q.1) := by
  show ∀ q ∈ [(9, 111)], _
  exact List.forall_mem_cons.mpr ⟨⟨⟨"ConeForms$Requirement", "<init>", "(ZLConeForms$Node;LConeForms$Node;)V"⟩, prog_8_method_1_code, 4, none, by rfl, sd_callI g_922 g_923 g_26 g_924 rfl y_84 (by decide) (by decide)⟩, fun _ h => absurd h List.not_mem_nil⟩
theorem sl_80 : Cond.selects "ConeForms" ⟨"ConeForms", "wrongPart", "()LConeForms$Node;"⟩ ⟨"ConeForms", "wrongPart", "()LConeForms$Node;"⟩ ∈ gws := gmp (List.mem_map.mpr ⟨(⟨"ConeForms", "wrongPart", "()LConeForms$Node;"⟩, 17), List.mem_of_getElem? (i := 20) (by decide +kernel), rfl⟩) rfl
theorem y_85 : "ConeForms" ≠ "java/lang/invoke/MethodHandle" ∧ "ConeForms" ≠ "java/lang/invoke/VarHandle" ∧ (parseMethodDescriptor "()LConeForms$Node;").map (fun d => d.parameters.length) = some 0 := by decide +kernel
theorem c_104 : ∀ q ∈ vt_l.getD 68 [], ∃ y b mL r0, mi_l[q.2]? = some (y, b, mL, r0) ∧ sd_Callable "ConeForms" (.invokevirtual 275) 3 1 y b mL r0 (some q.1) := by
  show ∀ q ∈ [(4, 114)], _
  exact List.forall_mem_cons.mpr ⟨⟨⟨"ConeForms", "wrongPart", "()LConeForms$Node;"⟩, prog_1_method_26_code, 3, (some (FieldType.object "ConeForms$Node")), by rfl, sd_callV (C := "ConeForms") (Or.inr ⟨_, _, rfl⟩) g_950 g_952 sl_80 g_1 g_953 y_85 (by decide)⟩, fun _ h => absurd h List.not_mem_nil⟩
theorem sl_81 : Cond.selects "ConeForms" ⟨"ConeForms", "use", "()V"⟩ ⟨"ConeForms", "use", "()V"⟩ ∈ gws := gmp (List.mem_map.mpr ⟨(⟨"ConeForms", "use", "()V"⟩, 17), List.mem_of_getElem? (i := 22) (by decide +kernel), rfl⟩) rfl
theorem y_86 : "ConeForms" ≠ "java/lang/invoke/MethodHandle" ∧ "ConeForms" ≠ "java/lang/invoke/VarHandle" ∧ (parseMethodDescriptor "()V").map (fun d => d.parameters.length) = some 0 := by decide +kernel
theorem c_105 : ∀ q ∈ vt_l.getD 69 [], ∃ y b mL r0, mi_l[q.2]? = some (y, b, mL, r0) ∧ sd_Callable "ConeForms" (.invokevirtual 279) 3 1 y b mL r0 (some q.1) := by
  show ∀ q ∈ [(4, 116)], _
  exact List.forall_mem_cons.mpr ⟨⟨⟨"ConeForms", "use", "()V"⟩, prog_1_method_29_code, 4, none, by rfl, sd_callV (C := "ConeForms") (Or.inr ⟨_, _, rfl⟩) g_958 g_960 sl_81 g_1 g_961 y_86 (by decide)⟩, fun _ h => absurd h List.not_mem_nil⟩
theorem sl_82 : Cond.selects "ConeForms" ⟨"ConeForms", "number", "(LConeForms$Node;)V"⟩ ⟨"ConeForms", "number", "(LConeForms$Node;)V"⟩ ∈ gws := gmp (List.mem_map.mpr ⟨(⟨"ConeForms", "number", "(LConeForms$Node;)V"⟩, 17), List.mem_of_getElem? (i := 23) (by decide +kernel), rfl⟩) rfl
theorem y_87 : "ConeForms" ≠ "java/lang/invoke/MethodHandle" ∧ "ConeForms" ≠ "java/lang/invoke/VarHandle" ∧ (parseMethodDescriptor "(LConeForms$Node;)V").map (fun d => d.parameters.length) = some 1 := by decide +kernel
theorem c_106 : ∀ q ∈ vt_l.getD 70 [], ∃ y b mL r0, mi_l[q.2]? = some (y, b, mL, r0) ∧ sd_Callable "ConeForms" (.invokevirtual 282) 3 2 y b mL r0 (some q.1) := by
  show ∀ q ∈ [(4, 117)], _
  exact List.forall_mem_cons.mpr ⟨⟨⟨"ConeForms", "number", "(LConeForms$Node;)V"⟩, prog_1_method_28_code, 2, none, by rfl, sd_callV (C := "ConeForms") (Or.inr ⟨_, _, rfl⟩) g_963 g_965 sl_82 g_1 g_966 y_87 (by decide)⟩, fun _ h => absurd h List.not_mem_nil⟩
theorem sl_83 : Cond.selects "ConeForms" ⟨"ConeForms", "wrong", "(LConeForms$Node;I)LConeForms$Node;"⟩ ⟨"ConeForms", "wrong", "(LConeForms$Node;I)LConeForms$Node;"⟩ ∈ gws := gmp (List.mem_map.mpr ⟨(⟨"ConeForms", "wrong", "(LConeForms$Node;I)LConeForms$Node;"⟩, 17), List.mem_of_getElem? (i := 21) (by decide +kernel), rfl⟩) rfl
theorem y_88 : "ConeForms" ≠ "java/lang/invoke/MethodHandle" ∧ "ConeForms" ≠ "java/lang/invoke/VarHandle" ∧ (parseMethodDescriptor "(LConeForms$Node;I)LConeForms$Node;").map (fun d => d.parameters.length) = some 2 := by decide +kernel
theorem c_107 : ∀ q ∈ vt_l.getD 71 [], ∃ y b mL r0, mi_l[q.2]? = some (y, b, mL, r0) ∧ sd_Callable "ConeForms" (.invokevirtual 267) 3 3 y b mL r0 (some q.1) := by
  show ∀ q ∈ [(4, 115)], _
  exact List.forall_mem_cons.mpr ⟨⟨⟨"ConeForms", "wrong", "(LConeForms$Node;I)LConeForms$Node;"⟩, prog_1_method_25_code, 3, (some (FieldType.object "ConeForms$Node")), by rfl, sd_callV (C := "ConeForms") (Or.inr ⟨_, _, rfl⟩) g_954 g_956 sl_83 g_1 g_957 y_88 (by decide)⟩, fun _ h => absurd h List.not_mem_nil⟩
theorem c_108 : ∀ q ∈ vt_l.getD 46 [], ∃ y b mL r0, mi_l[q.2]? = some (y, b, mL, r0) ∧ sd_Callable "ConeForms" (.invokevirtual 286) 3 2 y b mL r0 (some q.1) := by
  show ∀ q ∈ [(5, 64), (6, 64), (7, 64), (8, 64)], _
  exact List.forall_mem_cons.mpr ⟨⟨⟨"ConeForms$Node", "argument", "(I)LConeForms$Node;"⟩, prog_6_method_9_code, 2, (some (FieldType.object "ConeForms$Node")), by rfl, sd_callV (C := "ConeForms$Leaf") (Or.inr ⟨_, _, rfl⟩) g_962 g_688 g_691 g_21 g_694 y_57 (by decide)⟩, List.forall_mem_cons.mpr ⟨⟨⟨"ConeForms$Node", "argument", "(I)LConeForms$Node;"⟩, prog_6_method_9_code, 2, (some (FieldType.object "ConeForms$Node")), by rfl, sd_callV (C := "ConeForms$Bend") (Or.inr ⟨_, _, rfl⟩) g_962 g_688 g_690 g_21 g_694 y_57 (by decide)⟩, List.forall_mem_cons.mpr ⟨⟨⟨"ConeForms$Node", "argument", "(I)LConeForms$Node;"⟩, prog_6_method_9_code, 2, (some (FieldType.object "ConeForms$Node")), by rfl, sd_callV (C := "ConeForms$Product") (Or.inr ⟨_, _, rfl⟩) g_962 g_688 g_693 g_21 g_694 y_57 (by decide)⟩, List.forall_mem_cons.mpr ⟨⟨⟨"ConeForms$Node", "argument", "(I)LConeForms$Node;"⟩, prog_6_method_9_code, 2, (some (FieldType.object "ConeForms$Node")), by rfl, sd_callV (C := "ConeForms$Linear") (Or.inr ⟨_, _, rfl⟩) g_962 g_688 g_692 g_21 g_694 y_57 (by decide)⟩, fun _ h => absurd h List.not_mem_nil⟩⟩⟩⟩
theorem y_89 : "ConeForms$Table" ≠ "java/lang/invoke/MethodHandle" ∧ "ConeForms$Table" ≠ "java/lang/invoke/VarHandle" ∧ (parseMethodDescriptor "(II)I").map (fun d => d.parameters.length) = some 2 := by decide +kernel
theorem c_109 : ∀ q ∈ vt_l.getD 72 [], ∃ y b mL r0, mi_l[q.2]? = some (y, b, mL, r0) ∧ sd_Callable "ConeForms" (.invokevirtual 326) 3 3 y b mL r0 (some q.1) := by
  show ∀ q ∈ [(3, 120)], _
  exact List.forall_mem_cons.mpr ⟨⟨⟨"ConeForms$Table", "get", "(II)I"⟩, prog_10_method_4_code, 3, (some FieldType.int), by rfl, sd_callV (C := "ConeForms$Table") (Or.inr ⟨_, _, rfl⟩) g_975 g_976 g_977 g_10 g_978 y_89 (by decide)⟩, fun _ h => absurd h List.not_mem_nil⟩
theorem y_90 : "java/util/ArrayList" ≠ "java/lang/invoke/MethodHandle" ∧ "java/util/ArrayList" ≠ "java/lang/invoke/VarHandle" ∧ (parseMethodDescriptor "()Ljava/util/Iterator;").map (fun d => d.parameters.length) = some 0 := by decide +kernel
theorem c_110 : ∀ q ∈ vt_l.getD 73 [], ∃ y b mL r0, mi_l[q.2]? = some (y, b, mL, r0) ∧ sd_Callable "ConeForms" (.invokevirtual 329) 3 1 y b mL r0 (some q.1) := by
  show ∀ q ∈ [(2, 123)], _
  exact List.forall_mem_cons.mpr ⟨⟨⟨"java/util/ArrayList", "iterator", "()Ljava/util/Iterator;"⟩, prog_26_method_55_code, 1, (some (FieldType.object "java/util/Iterator")), by rfl, sd_callV (C := "java/util/ArrayList") (Or.inr ⟨_, _, rfl⟩) g_987 g_988 g_989 g_9 g_990 y_90 (by decide)⟩, fun _ h => absurd h List.not_mem_nil⟩
theorem y_91 : "java/util/Iterator" ≠ "java/lang/invoke/MethodHandle" ∧ "java/util/Iterator" ≠ "java/lang/invoke/VarHandle" ∧ (parseMethodDescriptor "()Z").map (fun d => d.parameters.length) = some 0 := by decide +kernel
theorem c_111 : ∀ q ∈ vt_l.getD 74 [], ∃ y b mL r0, mi_l[q.2]? = some (y, b, mL, r0) ∧ sd_Callable "ConeForms" (.invokeinterface 333 1) 5 1 y b mL r0 (some q.1) := by
  show ∀ q ∈ [(10, 125)], _
  exact List.forall_mem_cons.mpr ⟨⟨⟨"java/util/ArrayList$Itr", "hasNext", "()Z"⟩, prog_27_method_2_code, 1, (some FieldType.boolean), by rfl, sd_callF (C := "java/util/ArrayList$Itr") (T := F_10) (N := 4) rfl g_1011 g_1017 g_1015 g_27 g_1019 k_n1013 k_n1012 k_n1018 k_n1016 k_n1014 y_91 (by decide)⟩, fun _ h => absurd h List.not_mem_nil⟩
theorem y_92 : "java/util/Iterator" ≠ "java/lang/invoke/MethodHandle" ∧ "java/util/Iterator" ≠ "java/lang/invoke/VarHandle" ∧ (parseMethodDescriptor "()Ljava/lang/Object;").map (fun d => d.parameters.length) = some 0 := by decide +kernel
theorem c_112 : ∀ q ∈ vt_l.getD 75 [], ∃ y b mL r0, mi_l[q.2]? = some (y, b, mL, r0) ∧ sd_Callable "ConeForms" (.invokeinterface 338 1) 5 1 y b mL r0 (some q.1) := by
  show ∀ q ∈ [(10, 126)], _
  exact List.forall_mem_cons.mpr ⟨⟨⟨"java/util/ArrayList$Itr", "next", "()Ljava/lang/Object;"⟩, prog_27_method_3_code, 3, (some (FieldType.object "java/lang/Object")), by rfl, sd_callF (C := "java/util/ArrayList$Itr") (T := F_10) (N := 4) rfl g_1021 g_1026 g_1024 g_27 g_1028 k_n1023 k_n1022 k_n1027 k_n1025 k_n1014 y_92 (by decide)⟩, fun _ h => absurd h List.not_mem_nil⟩
theorem y_93 : "java/util/ArrayList$Itr" ≠ "java/lang/invoke/MethodHandle" ∧ "java/util/ArrayList$Itr" ≠ "java/lang/invoke/VarHandle" ∧ (parseMethodDescriptor "(Ljava/util/ArrayList;)V").map (fun d => d.parameters.length) = some 1 := by decide +kernel
theorem c_113 : ∀ q ∈ vt_l.getD 76 [], ∃ y b mL r0, mi_l[q.2]? = some (y, b, mL, r0) ∧ sd_Callable "java/util/ArrayList" (.invokespecial 269) 3 2 y b mL r0 (some q.1) := by
  show ∀ q ∈ [(10, 124)], _
  exact List.forall_mem_cons.mpr ⟨⟨⟨"java/util/ArrayList$Itr", "<init>", "(Ljava/util/ArrayList;)V"⟩, prog_27_method_1_code, 2, none, by rfl, sd_callI g_993 g_994 g_27 g_995 rfl y_93 (by decide) (by decide)⟩, fun _ h => absurd h List.not_mem_nil⟩
theorem y_94 : "java/util/ArrayList$Itr" ≠ "java/lang/invoke/MethodHandle" ∧ "java/util/ArrayList$Itr" ≠ "java/lang/invoke/VarHandle" ∧ (parseMethodDescriptor "()V").map (fun d => d.parameters.length) = some 0 := by decide +kernel
theorem c_114 : ∀ q ∈ vt_l.getD 77 [], ∃ y b mL r0, mi_l[q.2]? = some (y, b, mL, r0) ∧ sd_Callable "java/util/ArrayList$Itr" (.invokevirtual 31) 3 1 y b mL r0 (some q.1) := by
  show ∀ q ∈ [(10, 127)], _
  exact List.forall_mem_cons.mpr ⟨⟨⟨"java/util/ArrayList$Itr", "checkForComodification", "()V"⟩, prog_27_method_6_code, 1, none, by rfl, sd_callV (C := "java/util/ArrayList$Itr") (Or.inr ⟨_, _, rfl⟩) g_1029 g_1030 g_1031 g_27 g_1032 y_94 (by decide)⟩, fun _ h => absurd h List.not_mem_nil⟩
theorem sl_89 : Cond.selects "ConeForms" ⟨"ConeForms", "worth", "(I)J"⟩ ⟨"ConeForms", "worth", "(I)J"⟩ ∈ gws := gmp (List.mem_map.mpr ⟨(⟨"ConeForms", "worth", "(I)J"⟩, 17), List.mem_of_getElem? (i := 24) (by decide +kernel), rfl⟩) rfl
theorem y_95 : "ConeForms" ≠ "java/lang/invoke/MethodHandle" ∧ "ConeForms" ≠ "java/lang/invoke/VarHandle" ∧ (parseMethodDescriptor "(I)J").map (fun d => d.parameters.length) = some 1 := by decide +kernel
theorem c_115 : ∀ q ∈ vt_l.getD 78 [], ∃ y b mL r0, mi_l[q.2]? = some (y, b, mL, r0) ∧ sd_Callable "ConeForms" (.invokevirtual 345) 3 2 y b mL r0 (some q.1) := by
  show ∀ q ∈ [(4, 129)], _
  exact List.forall_mem_cons.mpr ⟨⟨⟨"ConeForms", "worth", "(I)J"⟩, prog_1_method_37_code, 2, (some FieldType.long), by rfl, sd_callV (C := "ConeForms") (Or.inr ⟨_, _, rfl⟩) g_1037 g_1039 sl_89 g_1 g_1040 y_95 (by decide)⟩, fun _ h => absurd h List.not_mem_nil⟩
theorem y_96 : "java/lang/Math" ≠ "java/lang/invoke/MethodHandle" ∧ "java/lang/Math" ≠ "java/lang/invoke/VarHandle" ∧ (parseMethodDescriptor "(J)J").map (fun d => d.parameters.length) = some 1 := by decide +kernel
theorem c_116 : sd_Callable "ConeForms" (.invokestatic 348) 3 1 ⟨"java/lang/Math", "abs", "(J)J"⟩ prog_18_method_61_code 2 (some FieldType.long) none := sd_callS g_1059 g_1060 g_13 g_1061 y_96 (by decide)
theorem y_97 : "ConeForms$Table" ≠ "java/lang/invoke/MethodHandle" ∧ "ConeForms$Table" ≠ "java/lang/invoke/VarHandle" ∧ (parseMethodDescriptor "(ILjava/util/ArrayList;)J").map (fun d => d.parameters.length) = some 2 := by decide +kernel
theorem c_117 : ∀ q ∈ vt_l.getD 79 [], ∃ y b mL r0, mi_l[q.2]? = some (y, b, mL, r0) ∧ sd_Callable "ConeForms" (.invokevirtual 341) 3 3 y b mL r0 (some q.1) := by
  show ∀ q ∈ [(3, 130)], _
  exact List.forall_mem_cons.mpr ⟨⟨⟨"ConeForms$Table", "worth", "(ILjava/util/ArrayList;)J"⟩, prog_10_method_6_code, 7, (some FieldType.long), by rfl, sd_callV (C := "ConeForms$Table") (Or.inr ⟨_, _, rfl⟩) g_1041 g_1042 g_1043 g_10 g_1044 y_97 (by decide)⟩, fun _ h => absurd h List.not_mem_nil⟩
theorem c_118 : ∀ q ∈ vt_l.getD 17 [], ∃ y b mL r0, mi_l[q.2]? = some (y, b, mL, r0) ∧ sd_Callable "ConeForms$Table" (.invokevirtual 18) 3 1 y b mL r0 (some q.1) := by
  show ∀ q ∈ [(2, 27)], _
  exact List.forall_mem_cons.mpr ⟨⟨⟨"java/util/ArrayList", "size", "()I"⟩, prog_26_method_8_code, 1, (some FieldType.int), by rfl, sd_callV (C := "java/util/ArrayList") (Or.inr ⟨_, _, rfl⟩) g_1045 g_343 g_344 g_9 g_345 y_22 (by decide)⟩, fun _ h => absurd h List.not_mem_nil⟩
theorem c_119 : ∀ q ∈ vt_l.getD 31 [], ∃ y b mL r0, mi_l[q.2]? = some (y, b, mL, r0) ∧ sd_Callable "ConeForms$Table" (.invokevirtual 24) 3 2 y b mL r0 (some q.1) := by
  show ∀ q ∈ [(2, 42)], _
  exact List.forall_mem_cons.mpr ⟨⟨⟨"java/util/ArrayList", "get", "(I)Ljava/lang/Object;"⟩, prog_26_method_20_code, 2, (some (FieldType.object "java/lang/Object")), by rfl, sd_callV (C := "java/util/ArrayList") (Or.inr ⟨_, _, rfl⟩) g_1046 g_430 g_431 g_9 g_432 y_39 (by decide)⟩, fun _ h => absurd h List.not_mem_nil⟩
theorem c_120 : ∀ q ∈ vt_l.getD 72 [], ∃ y b mL r0, mi_l[q.2]? = some (y, b, mL, r0) ∧ sd_Callable "ConeForms$Table" (.invokevirtual 34) 3 3 y b mL r0 (some q.1) := by
  show ∀ q ∈ [(3, 120)], _
  exact List.forall_mem_cons.mpr ⟨⟨⟨"ConeForms$Table", "get", "(II)I"⟩, prog_10_method_4_code, 3, (some FieldType.int), by rfl, sd_callV (C := "ConeForms$Table") (Or.inr ⟨_, _, rfl⟩) g_1048 g_976 g_977 g_10 g_978 y_89 (by decide)⟩, fun _ h => absurd h List.not_mem_nil⟩
theorem y_98 : "ConeForms$Node" ≠ "java/lang/invoke/MethodHandle" ∧ "ConeForms$Node" ≠ "java/lang/invoke/VarHandle" ∧ (parseMethodDescriptor "()I").map (fun d => d.parameters.length) = some 0 := by decide +kernel
theorem c_121 : ∀ q ∈ vt_l.getD 80 [], ∃ y b mL r0, mi_l[q.2]? = some (y, b, mL, r0) ∧ sd_Callable "ConeForms$Table" (.invokevirtual 37) 3 1 y b mL r0 (some q.1) := by
  show ∀ q ∈ [(5, 132), (6, 131), (7, 132), (8, 132)], _
  exact List.forall_mem_cons.mpr ⟨⟨⟨"ConeForms$Node", "standing", "()I"⟩, prog_6_method_7_code, 1, (some FieldType.int), by rfl, sd_callV (C := "ConeForms$Leaf") (Or.inr ⟨_, _, rfl⟩) g_1049 g_1050 g_1055 g_21 g_1058 y_98 (by decide)⟩, List.forall_mem_cons.mpr ⟨⟨⟨"ConeForms$Bend", "standing", "()I"⟩, prog_2_method_7_code, 1, (some FieldType.int), by rfl, sd_callU (C := "ConeForms$Bend") (owner := "ConeForms$Node") (Or.inr ⟨_, _, rfl⟩) g_1049 g_1051 g_1053 g_1052 g_23 g_1054 (Or.inr ⟨g_1050, _, _, _, g_1058⟩) y_98 (by decide)⟩, List.forall_mem_cons.mpr ⟨⟨⟨"ConeForms$Node", "standing", "()I"⟩, prog_6_method_7_code, 1, (some FieldType.int), by rfl, sd_callV (C := "ConeForms$Product") (Or.inr ⟨_, _, rfl⟩) g_1049 g_1050 g_1057 g_21 g_1058 y_98 (by decide)⟩, List.forall_mem_cons.mpr ⟨⟨⟨"ConeForms$Node", "standing", "()I"⟩, prog_6_method_7_code, 1, (some FieldType.int), by rfl, sd_callV (C := "ConeForms$Linear") (Or.inr ⟨_, _, rfl⟩) g_1049 g_1050 g_1056 g_21 g_1058 y_98 (by decide)⟩, fun _ h => absurd h List.not_mem_nil⟩⟩⟩⟩
theorem y_99 : "ConeForms$Requirement" ≠ "java/lang/invoke/MethodHandle" ∧ "ConeForms$Requirement" ≠ "java/lang/invoke/VarHandle" ∧ (parseMethodDescriptor "()Z").map (fun d => d.parameters.length) = some 0 := by decide +kernel
theorem c_122 : ∀ q ∈ vt_l.getD 81 [], ∃ y b mL r0, mi_l[q.2]? = some (y, b, mL, r0) ∧ sd_Callable "ConeForms" (.invokevirtual 354) 3 1 y b mL r0 (some q.1) := by
  show ∀ q ∈ [(9, 136)], _
  exact List.forall_mem_cons.mpr ⟨⟨⟨"ConeForms$Requirement", "holds", "()Z"⟩, prog_8_method_2_code, 1, (some FieldType.boolean), by rfl, sd_callV (C := "ConeForms$Requirement") (Or.inr ⟨_, _, rfl⟩) g_1070 g_1071 g_1072 g_26 g_1073 y_99 (by decide)⟩, fun _ h => absurd h List.not_mem_nil⟩
theorem sl_96 : Cond.selects "ConeFormsModel" ⟨"ConeFormsModel", "parse", "()I"⟩ ⟨"ConeFormsModel", "parse", "()I"⟩ ∈ gws := gmp (List.mem_map.mpr ⟨(⟨"ConeFormsModel", "parse", "()I"⟩, 36), List.mem_of_getElem? (i := 25) (by decide +kernel), rfl⟩) rfl
theorem y_100 : "ConeFormsModel" ≠ "java/lang/invoke/MethodHandle" ∧ "ConeFormsModel" ≠ "java/lang/invoke/VarHandle" ∧ (parseMethodDescriptor "()I").map (fun d => d.parameters.length) = some 0 := by decide +kernel
theorem c_123 : ∀ q ∈ vt_l.getD 82 [], ∃ y b mL r0, mi_l[q.2]? = some (y, b, mL, r0) ∧ sd_Callable "ConeFormsModel" (.invokevirtual 161) 3 1 y b mL r0 (some q.1) := by
  show ∀ q ∈ [(11, 141)], _
  exact List.forall_mem_cons.mpr ⟨⟨⟨"ConeFormsModel", "parse", "()I"⟩, prog_12_method_13_code, 2, (some FieldType.int), by rfl, sd_callV (C := "ConeFormsModel") (Or.inr ⟨_, _, rfl⟩) g_1203 g_1205 sl_96 g_11 g_1206 y_100 (by decide)⟩, fun _ h => absurd h List.not_mem_nil⟩
theorem sl_97 : Cond.selects "ConeFormsModel" ⟨"ConeFormsModel", "build", "(I)I"⟩ ⟨"ConeFormsModel", "build", "(I)I"⟩ ∈ gws := gmp (List.mem_map.mpr ⟨(⟨"ConeFormsModel", "build", "(I)I"⟩, 36), List.mem_of_getElem? (i := 34) (by decide +kernel), rfl⟩) rfl
theorem y_101 : "ConeFormsModel" ≠ "java/lang/invoke/MethodHandle" ∧ "ConeFormsModel" ≠ "java/lang/invoke/VarHandle" ∧ (parseMethodDescriptor "(I)I").map (fun d => d.parameters.length) = some 1 := by decide +kernel
theorem c_124 : ∀ q ∈ vt_l.getD 83 [], ∃ y b mL r0, mi_l[q.2]? = some (y, b, mL, r0) ∧ sd_Callable "ConeFormsModel" (.invokevirtual 165) 3 2 y b mL r0 (some q.1) := by
  show ∀ q ∈ [(11, 151)], _
  exact List.forall_mem_cons.mpr ⟨⟨⟨"ConeFormsModel", "build", "(I)I"⟩, prog_12_method_17_code, 10, (some FieldType.int), by rfl, sd_callV (C := "ConeFormsModel") (Or.inr ⟨_, _, rfl⟩) g_1242 g_1244 sl_97 g_11 g_1245 y_101 (by decide)⟩, fun _ h => absurd h List.not_mem_nil⟩
theorem sl_98 : Cond.selects "ConeFormsModel" ⟨"ConeFormsModel", "accept", "(I)Z"⟩ ⟨"ConeFormsModel", "accept", "(I)Z"⟩ ∈ gws := gmp (List.mem_map.mpr ⟨(⟨"ConeFormsModel", "accept", "(I)Z"⟩, 36), List.mem_of_getElem? (i := 26) (by decide +kernel), rfl⟩) rfl
theorem y_102 : "ConeFormsModel" ≠ "java/lang/invoke/MethodHandle" ∧ "ConeFormsModel" ≠ "java/lang/invoke/VarHandle" ∧ (parseMethodDescriptor "(I)Z").map (fun d => d.parameters.length) = some 1 := by decide +kernel
theorem c_125 : ∀ q ∈ vt_l.getD 84 [], ∃ y b mL r0, mi_l[q.2]? = some (y, b, mL, r0) ∧ sd_Callable "ConeFormsModel" (.invokevirtual 138) 3 2 y b mL r0 (some q.1) := by
  show ∀ q ∈ [(11, 142)], _
  exact List.forall_mem_cons.mpr ⟨⟨⟨"ConeFormsModel", "accept", "(I)Z"⟩, prog_12_method_12_code, 3, (some FieldType.boolean), by rfl, sd_callV (C := "ConeFormsModel") (Or.inr ⟨_, _, rfl⟩) g_1207 g_1209 sl_98 g_11 g_1210 y_102 (by decide)⟩, fun _ h => absurd h List.not_mem_nil⟩
theorem sl_99 : Cond.selects "ConeFormsModel" ⟨"ConeFormsModel", "unwind", "(Z)V"⟩ ⟨"ConeFormsModel", "unwind", "(Z)V"⟩ ∈ gws := gmp (List.mem_map.mpr ⟨(⟨"ConeFormsModel", "unwind", "(Z)V"⟩, 36), List.mem_of_getElem? (i := 33) (by decide +kernel), rfl⟩) rfl
theorem y_103 : "ConeFormsModel" ≠ "java/lang/invoke/MethodHandle" ∧ "ConeFormsModel" ≠ "java/lang/invoke/VarHandle" ∧ (parseMethodDescriptor "(Z)V").map (fun d => d.parameters.length) = some 1 := by decide +kernel
theorem c_126 : ∀ q ∈ vt_l.getD 85 [], ∃ y b mL r0, mi_l[q.2]? = some (y, b, mL, r0) ∧ sd_Callable "ConeFormsModel" (.invokevirtual 123) 3 2 y b mL r0 (some q.1) := by
  show ∀ q ∈ [(11, 149)], _
  exact List.forall_mem_cons.mpr ⟨⟨⟨"ConeFormsModel", "unwind", "(Z)V"⟩, prog_12_method_7_code, 2, none, by rfl, sd_callV (C := "ConeFormsModel") (Or.inr ⟨_, _, rfl⟩) g_1235 g_1237 sl_99 g_11 g_1238 y_103 (by decide)⟩, fun _ h => absurd h List.not_mem_nil⟩
theorem sl_100 : Cond.selects "ConeFormsModel" ⟨"ConeFormsModel", "operand", "(II)V"⟩ ⟨"ConeFormsModel", "operand", "(II)V"⟩ ∈ gws := gmp (List.mem_map.mpr ⟨(⟨"ConeFormsModel", "operand", "(II)V"⟩, 36), List.mem_of_getElem? (i := 27) (by decide +kernel), rfl⟩) rfl
theorem y_104 : "ConeFormsModel" ≠ "java/lang/invoke/MethodHandle" ∧ "ConeFormsModel" ≠ "java/lang/invoke/VarHandle" ∧ (parseMethodDescriptor "(II)V").map (fun d => d.parameters.length) = some 2 := by decide +kernel
theorem c_127 : ∀ q ∈ vt_l.getD 86 [], ∃ y b mL r0, mi_l[q.2]? = some (y, b, mL, r0) ∧ sd_Callable "ConeFormsModel" (.invokevirtual 110) 3 3 y b mL r0 (some q.1) := by
  show ∀ q ∈ [(11, 143)], _
  exact List.forall_mem_cons.mpr ⟨⟨⟨"ConeFormsModel", "operand", "(II)V"⟩, prog_12_method_6_code, 3, none, by rfl, sd_callV (C := "ConeFormsModel") (Or.inr ⟨_, _, rfl⟩) g_1211 g_1213 sl_100 g_11 g_1214 y_104 (by decide)⟩, fun _ h => absurd h List.not_mem_nil⟩
theorem sl_101 : Cond.selects "ConeFormsModel" ⟨"ConeFormsModel", "begin", "(I)Z"⟩ ⟨"ConeFormsModel", "begin", "(I)Z"⟩ ∈ gws := gmp (List.mem_map.mpr ⟨(⟨"ConeFormsModel", "begin", "(I)Z"⟩, 36), List.mem_of_getElem? (i := 30) (by decide +kernel), rfl⟩) rfl
theorem y_105 : "ConeFormsModel" ≠ "java/lang/invoke/MethodHandle" ∧ "ConeFormsModel" ≠ "java/lang/invoke/VarHandle" ∧ (parseMethodDescriptor "(I)Z").map (fun d => d.parameters.length) = some 1 := by decide +kernel
theorem c_128 : ∀ q ∈ vt_l.getD 87 [], ∃ y b mL r0, mi_l[q.2]? = some (y, b, mL, r0) ∧ sd_Callable "ConeFormsModel" (.invokevirtual 131) 3 2 y b mL r0 (some q.1) := by
  show ∀ q ∈ [(11, 146)], _
  exact List.forall_mem_cons.mpr ⟨⟨⟨"ConeFormsModel", "begin", "(I)Z"⟩, prog_12_method_9_code, 2, (some FieldType.boolean), by rfl, sd_callV (C := "ConeFormsModel") (Or.inr ⟨_, _, rfl⟩) g_1223 g_1225 sl_101 g_11 g_1226 y_105 (by decide)⟩, fun _ h => absurd h List.not_mem_nil⟩
theorem sl_102 : Cond.selects "ConeFormsModel" ⟨"ConeFormsModel", "follow", "(I)Z"⟩ ⟨"ConeFormsModel", "follow", "(I)Z"⟩ ∈ gws := gmp (List.mem_map.mpr ⟨(⟨"ConeFormsModel", "follow", "(I)Z"⟩, 36), List.mem_of_getElem? (i := 32) (by decide +kernel), rfl⟩) rfl
theorem y_106 : "ConeFormsModel" ≠ "java/lang/invoke/MethodHandle" ∧ "ConeFormsModel" ≠ "java/lang/invoke/VarHandle" ∧ (parseMethodDescriptor "(I)Z").map (fun d => d.parameters.length) = some 1 := by decide +kernel
theorem c_129 : ∀ q ∈ vt_l.getD 88 [], ∃ y b mL r0, mi_l[q.2]? = some (y, b, mL, r0) ∧ sd_Callable "ConeFormsModel" (.invokevirtual 135) 3 2 y b mL r0 (some q.1) := by
  show ∀ q ∈ [(11, 148)], _
  exact List.forall_mem_cons.mpr ⟨⟨⟨"ConeFormsModel", "follow", "(I)Z"⟩, prog_12_method_11_code, 4, (some FieldType.boolean), by rfl, sd_callV (C := "ConeFormsModel") (Or.inr ⟨_, _, rfl⟩) g_1231 g_1233 sl_102 g_11 g_1234 y_106 (by decide)⟩, fun _ h => absurd h List.not_mem_nil⟩
theorem sl_103 : Cond.selects "ConeFormsModel" ⟨"ConeFormsModel", "emit", "(II)V"⟩ ⟨"ConeFormsModel", "emit", "(II)V"⟩ ∈ gws := gmp (List.mem_map.mpr ⟨(⟨"ConeFormsModel", "emit", "(II)V"⟩, 36), List.mem_of_getElem? (i := 28) (by decide +kernel), rfl⟩) rfl
theorem y_107 : "ConeFormsModel" ≠ "java/lang/invoke/MethodHandle" ∧ "ConeFormsModel" ≠ "java/lang/invoke/VarHandle" ∧ (parseMethodDescriptor "(II)V").map (fun d => d.parameters.length) = some 2 := by decide +kernel
theorem c_130 : ∀ q ∈ vt_l.getD 89 [], ∃ y b mL r0, mi_l[q.2]? = some (y, b, mL, r0) ∧ sd_Callable "ConeFormsModel" (.invokevirtual 100) 3 3 y b mL r0 (some q.1) := by
  show ∀ q ∈ [(11, 144)], _
  exact List.forall_mem_cons.mpr ⟨⟨⟨"ConeFormsModel", "emit", "(II)V"⟩, prog_12_method_4_code, 3, none, by rfl, sd_callV (C := "ConeFormsModel") (Or.inr ⟨_, _, rfl⟩) g_1215 g_1217 sl_103 g_11 g_1218 y_107 (by decide)⟩, fun _ h => absurd h List.not_mem_nil⟩
theorem sl_104 : Cond.selects "ConeFormsModel" ⟨"ConeFormsModel", "negations", "()V"⟩ ⟨"ConeFormsModel", "negations", "()V"⟩ ∈ gws := gmp (List.mem_map.mpr ⟨(⟨"ConeFormsModel", "negations", "()V"⟩, 36), List.mem_of_getElem? (i := 29) (by decide +kernel), rfl⟩) rfl
theorem y_108 : "ConeFormsModel" ≠ "java/lang/invoke/MethodHandle" ∧ "ConeFormsModel" ≠ "java/lang/invoke/VarHandle" ∧ (parseMethodDescriptor "()V").map (fun d => d.parameters.length) = some 0 := by decide +kernel
theorem c_131 : ∀ q ∈ vt_l.getD 90 [], ∃ y b mL r0, mi_l[q.2]? = some (y, b, mL, r0) ∧ sd_Callable "ConeFormsModel" (.invokevirtual 107) 3 1 y b mL r0 (some q.1) := by
  show ∀ q ∈ [(11, 145)], _
  exact List.forall_mem_cons.mpr ⟨⟨⟨"ConeFormsModel", "negations", "()V"⟩, prog_12_method_5_code, 1, none, by rfl, sd_callV (C := "ConeFormsModel") (Or.inr ⟨_, _, rfl⟩) g_1219 g_1221 sl_104 g_11 g_1222 y_108 (by decide)⟩, fun _ h => absurd h List.not_mem_nil⟩
theorem sl_105 : Cond.selects "ConeFormsModel" ⟨"ConeFormsModel", "open", "(I)V"⟩ ⟨"ConeFormsModel", "open", "(I)V"⟩ ∈ gws := gmp (List.mem_map.mpr ⟨(⟨"ConeFormsModel", "open", "(I)V"⟩, 36), List.mem_of_getElem? (i := 31) (by decide +kernel), rfl⟩) rfl
theorem y_109 : "ConeFormsModel" ≠ "java/lang/invoke/MethodHandle" ∧ "ConeFormsModel" ≠ "java/lang/invoke/VarHandle" ∧ (parseMethodDescriptor "(I)V").map (fun d => d.parameters.length) = some 1 := by decide +kernel
theorem c_132 : ∀ q ∈ vt_l.getD 91 [], ∃ y b mL r0, mi_l[q.2]? = some (y, b, mL, r0) ∧ sd_Callable "ConeFormsModel" (.invokevirtual 119) 3 2 y b mL r0 (some q.1) := by
  show ∀ q ∈ [(11, 147)], _
  exact List.forall_mem_cons.mpr ⟨⟨⟨"ConeFormsModel", "open", "(I)V"⟩, prog_12_method_8_code, 2, none, by rfl, sd_callV (C := "ConeFormsModel") (Or.inr ⟨_, _, rfl⟩) g_1227 g_1229 sl_105 g_11 g_1230 y_109 (by decide)⟩, fun _ h => absurd h List.not_mem_nil⟩
theorem y_110 : "ConeFormsModel" ≠ "java/lang/invoke/MethodHandle" ∧ "ConeFormsModel" ≠ "java/lang/invoke/VarHandle" ∧ (parseMethodDescriptor "(I)I").map (fun d => d.parameters.length) = some 1 := by decide +kernel
theorem c_133 : sd_Callable "ConeFormsModel" (.invokestatic 127) 3 1 ⟨"ConeFormsModel", "commasOf", "(I)I"⟩ prog_12_method_10_code 1 (some FieldType.int) none := sd_callS g_1239 g_1240 g_11 g_1241 y_110 (by decide)
theorem y_111 : "ConeFormsModel" ≠ "java/lang/invoke/MethodHandle" ∧ "ConeFormsModel" ≠ "java/lang/invoke/VarHandle" ∧ (parseMethodDescriptor "(I)I").map (fun d => d.parameters.length) = some 1 := by decide +kernel
theorem c_134 : sd_Callable "ConeFormsModel" (.invokestatic 154) 3 1 ⟨"ConeFormsModel", "arity", "(I)I"⟩ prog_12_method_14_code 1 (some FieldType.int) none := sd_callS g_1246 g_1247 g_11 g_1248 y_111 (by decide)
theorem sl_106 : Cond.selects "ConeFormsModel" ⟨"ConeFormsModel", "make", "(IIIII)I"⟩ ⟨"ConeFormsModel", "make", "(IIIII)I"⟩ ∈ gws := gmp (List.mem_map.mpr ⟨(⟨"ConeFormsModel", "make", "(IIIII)I"⟩, 36), List.mem_of_getElem? (i := 35) (by decide +kernel), rfl⟩) rfl
theorem y_112 : "ConeFormsModel" ≠ "java/lang/invoke/MethodHandle" ∧ "ConeFormsModel" ≠ "java/lang/invoke/VarHandle" ∧ (parseMethodDescriptor "(IIIII)I").map (fun d => d.parameters.length) = some 5 := by decide +kernel
theorem c_135 : ∀ q ∈ vt_l.getD 92 [], ∃ y b mL r0, mi_l[q.2]? = some (y, b, mL, r0) ∧ sd_Callable "ConeFormsModel" (.invokevirtual 157) 3 6 y b mL r0 (some q.1) := by
  show ∀ q ∈ [(11, 153)], _
  exact List.forall_mem_cons.mpr ⟨⟨⟨"ConeFormsModel", "make", "(IIIII)I"⟩, prog_12_method_16_code, 8, (some FieldType.int), by rfl, sd_callV (C := "ConeFormsModel") (Or.inr ⟨_, _, rfl⟩) g_1249 g_1251 sl_106 g_11 g_1252 y_112 (by decide)⟩, fun _ h => absurd h List.not_mem_nil⟩
theorem sl_107 : Cond.selects "ConeFormsModel" ⟨"ConeFormsModel", "reachOf", "(IIIII)J"⟩ ⟨"ConeFormsModel", "reachOf", "(IIIII)J"⟩ ∈ gws := gmp (List.mem_map.mpr ⟨(⟨"ConeFormsModel", "reachOf", "(IIIII)J"⟩, 36), List.mem_of_getElem? (i := 36) (by decide +kernel), rfl⟩) rfl
theorem y_113 : "ConeFormsModel" ≠ "java/lang/invoke/MethodHandle" ∧ "ConeFormsModel" ≠ "java/lang/invoke/VarHandle" ∧ (parseMethodDescriptor "(IIIII)J").map (fun d => d.parameters.length) = some 5 := by decide +kernel
theorem c_136 : ∀ q ∈ vt_l.getD 93 [], ∃ y b mL r0, mi_l[q.2]? = some (y, b, mL, r0) ∧ sd_Callable "ConeFormsModel" (.invokevirtual 148) 3 6 y b mL r0 (some q.1) := by
  show ∀ q ∈ [(11, 154)], _
  exact List.forall_mem_cons.mpr ⟨⟨⟨"ConeFormsModel", "reachOf", "(IIIII)J"⟩, prog_12_method_15_code, 6, (some FieldType.long), by rfl, sd_callV (C := "ConeFormsModel") (Or.inr ⟨_, _, rfl⟩) g_1253 g_1255 sl_107 g_11 g_1256 y_113 (by decide)⟩, fun _ h => absurd h List.not_mem_nil⟩
theorem sl_108 : Cond.selects "ConeFormsModel" ⟨"ConeFormsModel", "work", "()V"⟩ ⟨"ConeFormsModel", "work", "()V"⟩ ∈ gws := gmp (List.mem_map.mpr ⟨(⟨"ConeFormsModel", "work", "()V"⟩, 36), List.mem_of_getElem? (i := 37) (by decide +kernel), rfl⟩) rfl
theorem y_114 : "ConeFormsModel" ≠ "java/lang/invoke/MethodHandle" ∧ "ConeFormsModel" ≠ "java/lang/invoke/VarHandle" ∧ (parseMethodDescriptor "()V").map (fun d => d.parameters.length) = some 0 := by decide +kernel
theorem c_137 : ∀ q ∈ vt_l.getD 94 [], ∃ y b mL r0, mi_l[q.2]? = some (y, b, mL, r0) ∧ sd_Callable "ConeFormsModel" (.invokevirtual 200) 3 1 y b mL r0 (some q.1) := by
  show ∀ q ∈ [(11, 157)], _
  exact List.forall_mem_cons.mpr ⟨⟨⟨"ConeFormsModel", "work", "()V"⟩, prog_12_method_30_code, 5, none, by rfl, sd_callV (C := "ConeFormsModel") (Or.inr ⟨_, _, rfl⟩) g_1268 g_1270 sl_108 g_11 g_1271 y_114 (by decide)⟩, fun _ h => absurd h List.not_mem_nil⟩
theorem sl_109 : Cond.selects "ConeFormsModel" ⟨"ConeFormsModel", "isNode", "(I)Z"⟩ ⟨"ConeFormsModel", "isNode", "(I)Z"⟩ ∈ gws := gmp (List.mem_map.mpr ⟨(⟨"ConeFormsModel", "isNode", "(I)Z"⟩, 36), List.mem_of_getElem? (i := 46) (by decide +kernel), rfl⟩) rfl
theorem y_115 : "ConeFormsModel" ≠ "java/lang/invoke/MethodHandle" ∧ "ConeFormsModel" ≠ "java/lang/invoke/VarHandle" ∧ (parseMethodDescriptor "(I)Z").map (fun d => d.parameters.length) = some 1 := by decide +kernel
theorem c_138 : ∀ q ∈ vt_l.getD 95 [], ∃ y b mL r0, mi_l[q.2]? = some (y, b, mL, r0) ∧ sd_Callable "ConeFormsModel" (.invokevirtual 203) 3 2 y b mL r0 (some q.1) := by
  show ∀ q ∈ [(11, 167)], _
  exact List.forall_mem_cons.mpr ⟨⟨⟨"ConeFormsModel", "isNode", "(I)Z"⟩, prog_12_method_20_code, 2, (some FieldType.boolean), by rfl, sd_callV (C := "ConeFormsModel") (Or.inr ⟨_, _, rfl⟩) g_1307 g_1309 sl_109 g_11 g_1310 y_115 (by decide)⟩, fun _ h => absurd h List.not_mem_nil⟩
theorem sl_110 : Cond.selects "ConeFormsModel" ⟨"ConeFormsModel", "signs", "(IIII)V"⟩ ⟨"ConeFormsModel", "signs", "(IIII)V"⟩ ∈ gws := gmp (List.mem_map.mpr ⟨(⟨"ConeFormsModel", "signs", "(IIII)V"⟩, 36), List.mem_of_getElem? (i := 38) (by decide +kernel), rfl⟩) rfl
theorem y_116 : "ConeFormsModel" ≠ "java/lang/invoke/MethodHandle" ∧ "ConeFormsModel" ≠ "java/lang/invoke/VarHandle" ∧ (parseMethodDescriptor "(IIII)V").map (fun d => d.parameters.length) = some 4 := by decide +kernel
theorem c_139 : ∀ q ∈ vt_l.getD 96 [], ∃ y b mL r0, mi_l[q.2]? = some (y, b, mL, r0) ∧ sd_Callable "ConeFormsModel" (.invokevirtual 186) 3 5 y b mL r0 (some q.1) := by
  show ∀ q ∈ [(11, 158)], _
  exact List.forall_mem_cons.mpr ⟨⟨⟨"ConeFormsModel", "signs", "(IIII)V"⟩, prog_12_method_21_code, 7, none, by rfl, sd_callV (C := "ConeFormsModel") (Or.inr ⟨_, _, rfl⟩) g_1272 g_1274 sl_110 g_11 g_1275 y_116 (by decide)⟩, fun _ h => absurd h List.not_mem_nil⟩
theorem sl_111 : Cond.selects "ConeFormsModel" ⟨"ConeFormsModel", "worthOf", "(IIII)I"⟩ ⟨"ConeFormsModel", "worthOf", "(IIII)I"⟩ ∈ gws := gmp (List.mem_map.mpr ⟨(⟨"ConeFormsModel", "worthOf", "(IIII)I"⟩, 36), List.mem_of_getElem? (i := 39) (by decide +kernel), rfl⟩) rfl
theorem y_117 : "ConeFormsModel" ≠ "java/lang/invoke/MethodHandle" ∧ "ConeFormsModel" ≠ "java/lang/invoke/VarHandle" ∧ (parseMethodDescriptor "(IIII)I").map (fun d => d.parameters.length) = some 4 := by decide +kernel
theorem c_140 : ∀ q ∈ vt_l.getD 97 [], ∃ y b mL r0, mi_l[q.2]? = some (y, b, mL, r0) ∧ sd_Callable "ConeFormsModel" (.invokevirtual 190) 3 5 y b mL r0 (some q.1) := by
  show ∀ q ∈ [(11, 159)], _
  exact List.forall_mem_cons.mpr ⟨⟨⟨"ConeFormsModel", "worthOf", "(IIII)I"⟩, prog_12_method_23_code, 5, (some FieldType.int), by rfl, sd_callV (C := "ConeFormsModel") (Or.inr ⟨_, _, rfl⟩) g_1276 g_1278 sl_111 g_11 g_1279 y_117 (by decide)⟩, fun _ h => absurd h List.not_mem_nil⟩
theorem sl_112 : Cond.selects "ConeFormsModel" ⟨"ConeFormsModel", "curveOf", "(I)I"⟩ ⟨"ConeFormsModel", "curveOf", "(I)I"⟩ ∈ gws := gmp (List.mem_map.mpr ⟨(⟨"ConeFormsModel", "curveOf", "(I)I"⟩, 36), List.mem_of_getElem? (i := 40) (by decide +kernel), rfl⟩) rfl
theorem y_118 : "ConeFormsModel" ≠ "java/lang/invoke/MethodHandle" ∧ "ConeFormsModel" ≠ "java/lang/invoke/VarHandle" ∧ (parseMethodDescriptor "(I)I").map (fun d => d.parameters.length) = some 1 := by decide +kernel
theorem c_141 : ∀ q ∈ vt_l.getD 98 [], ∃ y b mL r0, mi_l[q.2]? = some (y, b, mL, r0) ∧ sd_Callable "ConeFormsModel" (.invokevirtual 194) 3 2 y b mL r0 (some q.1) := by
  show ∀ q ∈ [(11, 161)], _
  exact List.forall_mem_cons.mpr ⟨⟨⟨"ConeFormsModel", "curveOf", "(I)I"⟩, prog_12_method_28_code, 5, (some FieldType.int), by rfl, sd_callV (C := "ConeFormsModel") (Or.inr ⟨_, _, rfl⟩) g_1283 g_1285 sl_112 g_11 g_1286 y_118 (by decide)⟩, fun _ h => absurd h List.not_mem_nil⟩
theorem sl_113 : Cond.selects "ConeFormsModel" ⟨"ConeFormsModel", "blameOf", "(I)I"⟩ ⟨"ConeFormsModel", "blameOf", "(I)I"⟩ ∈ gws := gmp (List.mem_map.mpr ⟨(⟨"ConeFormsModel", "blameOf", "(I)I"⟩, 36), List.mem_of_getElem? (i := 45) (by decide +kernel), rfl⟩) rfl
theorem y_119 : "ConeFormsModel" ≠ "java/lang/invoke/MethodHandle" ∧ "ConeFormsModel" ≠ "java/lang/invoke/VarHandle" ∧ (parseMethodDescriptor "(I)I").map (fun d => d.parameters.length) = some 1 := by decide +kernel
theorem c_142 : ∀ q ∈ vt_l.getD 99 [], ∃ y b mL r0, mi_l[q.2]? = some (y, b, mL, r0) ∧ sd_Callable "ConeFormsModel" (.invokevirtual 197) 3 2 y b mL r0 (some q.1) := by
  show ∀ q ∈ [(11, 166)], _
  exact List.forall_mem_cons.mpr ⟨⟨⟨"ConeFormsModel", "blameOf", "(I)I"⟩, prog_12_method_29_code, 3, (some FieldType.int), by rfl, sd_callV (C := "ConeFormsModel") (Or.inr ⟨_, _, rfl⟩) g_1303 g_1305 sl_113 g_11 g_1306 y_119 (by decide)⟩, fun _ h => absurd h List.not_mem_nil⟩
theorem y_120 : "ConeFormsModel" ≠ "java/lang/invoke/MethodHandle" ∧ "ConeFormsModel" ≠ "java/lang/invoke/VarHandle" ∧ (parseMethodDescriptor "(II)I").map (fun d => d.parameters.length) = some 2 := by decide +kernel
theorem c_143 : sd_Callable "ConeFormsModel" (.invokestatic 168) 3 2 ⟨"ConeFormsModel", "greater", "(II)I"⟩ prog_12_method_22_code 2 (some FieldType.int) none := sd_callS g_1280 g_1281 g_11 g_1282 y_120 (by decide)
theorem sl_114 : Cond.selects "ConeFormsModel" ⟨"ConeFormsModel", "having", "(III)I"⟩ ⟨"ConeFormsModel", "having", "(III)I"⟩ ∈ gws := gmp (List.mem_map.mpr ⟨(⟨"ConeFormsModel", "having", "(III)I"⟩, 36), List.mem_of_getElem? (i := 41) (by decide +kernel), rfl⟩) rfl
theorem y_121 : "ConeFormsModel" ≠ "java/lang/invoke/MethodHandle" ∧ "ConeFormsModel" ≠ "java/lang/invoke/VarHandle" ∧ (parseMethodDescriptor "(III)I").map (fun d => d.parameters.length) = some 3 := by decide +kernel
theorem c_144 : ∀ q ∈ vt_l.getD 100 [], ∃ y b mL r0, mi_l[q.2]? = some (y, b, mL, r0) ∧ sd_Callable "ConeFormsModel" (.invokevirtual 179) 3 4 y b mL r0 (some q.1) := by
  show ∀ q ∈ [(11, 162)], _
  exact List.forall_mem_cons.mpr ⟨⟨⟨"ConeFormsModel", "having", "(III)I"⟩, prog_12_method_27_code, 7, (some FieldType.int), by rfl, sd_callV (C := "ConeFormsModel") (Or.inr ⟨_, _, rfl⟩) g_1287 g_1289 sl_114 g_11 g_1290 y_121 (by decide)⟩, fun _ h => absurd h List.not_mem_nil⟩
theorem sl_115 : Cond.selects "ConeFormsModel" ⟨"ConeFormsModel", "firstNot", "(II)I"⟩ ⟨"ConeFormsModel", "firstNot", "(II)I"⟩ ∈ gws := gmp (List.mem_map.mpr ⟨(⟨"ConeFormsModel", "firstNot", "(II)I"⟩, 36), List.mem_of_getElem? (i := 42) (by decide +kernel), rfl⟩) rfl
theorem y_122 : "ConeFormsModel" ≠ "java/lang/invoke/MethodHandle" ∧ "ConeFormsModel" ≠ "java/lang/invoke/VarHandle" ∧ (parseMethodDescriptor "(II)I").map (fun d => d.parameters.length) = some 2 := by decide +kernel
theorem c_145 : ∀ q ∈ vt_l.getD 101 [], ∃ y b mL r0, mi_l[q.2]? = some (y, b, mL, r0) ∧ sd_Callable "ConeFormsModel" (.invokevirtual 183) 3 3 y b mL r0 (some q.1) := by
  show ∀ q ∈ [(11, 163)], _
  exact List.forall_mem_cons.mpr ⟨⟨⟨"ConeFormsModel", "firstNot", "(II)I"⟩, prog_12_method_26_code, 5, (some FieldType.int), by rfl, sd_callV (C := "ConeFormsModel") (Or.inr ⟨_, _, rfl⟩) g_1291 g_1293 sl_115 g_11 g_1294 y_122 (by decide)⟩, fun _ h => absurd h List.not_mem_nil⟩
theorem sl_116 : Cond.selects "ConeFormsModel" ⟨"ConeFormsModel", "admits", "(III)Z"⟩ ⟨"ConeFormsModel", "admits", "(III)Z"⟩ ∈ gws := gmp (List.mem_map.mpr ⟨(⟨"ConeFormsModel", "admits", "(III)Z"⟩, 36), List.mem_of_getElem? (i := 43) (by decide +kernel), rfl⟩) rfl
theorem y_123 : "ConeFormsModel" ≠ "java/lang/invoke/MethodHandle" ∧ "ConeFormsModel" ≠ "java/lang/invoke/VarHandle" ∧ (parseMethodDescriptor "(III)Z").map (fun d => d.parameters.length) = some 3 := by decide +kernel
theorem c_146 : ∀ q ∈ vt_l.getD 102 [], ∃ y b mL r0, mi_l[q.2]? = some (y, b, mL, r0) ∧ sd_Callable "ConeFormsModel" (.invokevirtual 175) 3 4 y b mL r0 (some q.1) := by
  show ∀ q ∈ [(11, 164)], _
  exact List.forall_mem_cons.mpr ⟨⟨⟨"ConeFormsModel", "admits", "(III)Z"⟩, prog_12_method_25_code, 6, (some FieldType.boolean), by rfl, sd_callV (C := "ConeFormsModel") (Or.inr ⟨_, _, rfl⟩) g_1295 g_1297 sl_116 g_11 g_1298 y_123 (by decide)⟩, fun _ h => absurd h List.not_mem_nil⟩
theorem sl_117 : Cond.selects "ConeFormsModel" ⟨"ConeFormsModel", "trend", "(II)I"⟩ ⟨"ConeFormsModel", "trend", "(II)I"⟩ ∈ gws := gmp (List.mem_map.mpr ⟨(⟨"ConeFormsModel", "trend", "(II)I"⟩, 36), List.mem_of_getElem? (i := 44) (by decide +kernel), rfl⟩) rfl
theorem y_124 : "ConeFormsModel" ≠ "java/lang/invoke/MethodHandle" ∧ "ConeFormsModel" ≠ "java/lang/invoke/VarHandle" ∧ (parseMethodDescriptor "(II)I").map (fun d => d.parameters.length) = some 2 := by decide +kernel
theorem c_147 : ∀ q ∈ vt_l.getD 103 [], ∃ y b mL r0, mi_l[q.2]? = some (y, b, mL, r0) ∧ sd_Callable "ConeFormsModel" (.invokevirtual 172) 3 3 y b mL r0 (some q.1) := by
  show ∀ q ∈ [(11, 165)], _
  exact List.forall_mem_cons.mpr ⟨⟨⟨"ConeFormsModel", "trend", "(II)I"⟩, prog_12_method_24_code, 5, (some FieldType.int), by rfl, sd_callV (C := "ConeFormsModel") (Or.inr ⟨_, _, rfl⟩) g_1299 g_1301 sl_117 g_11 g_1302 y_124 (by decide)⟩, fun _ h => absurd h List.not_mem_nil⟩
theorem sl_118 : Cond.selects "ConeFormsModel" ⟨"ConeFormsModel", "walk", "(I)I"⟩ ⟨"ConeFormsModel", "walk", "(I)I"⟩ ∈ gws := gmp (List.mem_map.mpr ⟨(⟨"ConeFormsModel", "walk", "(I)I"⟩, 36), List.mem_of_getElem? (i := 47) (by decide +kernel), rfl⟩) rfl
theorem y_125 : "ConeFormsModel" ≠ "java/lang/invoke/MethodHandle" ∧ "ConeFormsModel" ≠ "java/lang/invoke/VarHandle" ∧ (parseMethodDescriptor "(I)I").map (fun d => d.parameters.length) = some 1 := by decide +kernel
theorem c_148 : ∀ q ∈ vt_l.getD 104 [], ∃ y b mL r0, mi_l[q.2]? = some (y, b, mL, r0) ∧ sd_Callable "ConeFormsModel" (.invokevirtual 206) 3 2 y b mL r0 (some q.1) := by
  show ∀ q ∈ [(11, 171)], _
  exact List.forall_mem_cons.mpr ⟨⟨⟨"ConeFormsModel", "walk", "(I)I"⟩, prog_12_method_34_code, 7, (some FieldType.int), by rfl, sd_callV (C := "ConeFormsModel") (Or.inr ⟨_, _, rfl⟩) g_1323 g_1325 sl_118 g_11 g_1326 y_125 (by decide)⟩, fun _ h => absurd h List.not_mem_nil⟩
theorem sl_119 : Cond.selects "ConeFormsModel" ⟨"ConeFormsModel", "wrongPart", "()I"⟩ ⟨"ConeFormsModel", "wrongPart", "()I"⟩ ∈ gws := gmp (List.mem_map.mpr ⟨(⟨"ConeFormsModel", "wrongPart", "()I"⟩, 36), List.mem_of_getElem? (i := 48) (by decide +kernel), rfl⟩) rfl
theorem y_126 : "ConeFormsModel" ≠ "java/lang/invoke/MethodHandle" ∧ "ConeFormsModel" ≠ "java/lang/invoke/VarHandle" ∧ (parseMethodDescriptor "()I").map (fun d => d.parameters.length) = some 0 := by decide +kernel
theorem c_149 : ∀ q ∈ vt_l.getD 105 [], ∃ y b mL r0, mi_l[q.2]? = some (y, b, mL, r0) ∧ sd_Callable "ConeFormsModel" (.invokevirtual 223) 3 1 y b mL r0 (some q.1) := by
  show ∀ q ∈ [(11, 177)], _
  exact List.forall_mem_cons.mpr ⟨⟨⟨"ConeFormsModel", "wrongPart", "()I"⟩, prog_12_method_41_code, 2, (some FieldType.int), by rfl, sd_callV (C := "ConeFormsModel") (Or.inr ⟨_, _, rfl⟩) g_1347 g_1349 sl_119 g_11 g_1350 y_126 (by decide)⟩, fun _ h => absurd h List.not_mem_nil⟩
theorem sl_120 : Cond.selects "ConeFormsModel" ⟨"ConeFormsModel", "mark", "()V"⟩ ⟨"ConeFormsModel", "mark", "()V"⟩ ∈ gws := gmp (List.mem_map.mpr ⟨(⟨"ConeFormsModel", "mark", "()V"⟩, 36), List.mem_of_getElem? (i := 50) (by decide +kernel), rfl⟩) rfl
theorem y_127 : "ConeFormsModel" ≠ "java/lang/invoke/MethodHandle" ∧ "ConeFormsModel" ≠ "java/lang/invoke/VarHandle" ∧ (parseMethodDescriptor "()V").map (fun d => d.parameters.length) = some 0 := by decide +kernel
theorem c_150 : ∀ q ∈ vt_l.getD 106 [], ∃ y b mL r0, mi_l[q.2]? = some (y, b, mL, r0) ∧ sd_Callable "ConeFormsModel" (.invokevirtual 226) 3 1 y b mL r0 (some q.1) := by
  show ∀ q ∈ [(11, 179)], _
  exact List.forall_mem_cons.mpr ⟨⟨⟨"ConeFormsModel", "mark", "()V"⟩, prog_12_method_43_code, 3, none, by rfl, sd_callV (C := "ConeFormsModel") (Or.inr ⟨_, _, rfl⟩) g_1355 g_1357 sl_120 g_11 g_1358 y_127 (by decide)⟩, fun _ h => absurd h List.not_mem_nil⟩
theorem sl_121 : Cond.selects "ConeFormsModel" ⟨"ConeFormsModel", "columns", "()I"⟩ ⟨"ConeFormsModel", "columns", "()I"⟩ ∈ gws := gmp (List.mem_map.mpr ⟨(⟨"ConeFormsModel", "columns", "()I"⟩, 36), List.mem_of_getElem? (i := 51) (by decide +kernel), rfl⟩) rfl
theorem y_128 : "ConeFormsModel" ≠ "java/lang/invoke/MethodHandle" ∧ "ConeFormsModel" ≠ "java/lang/invoke/VarHandle" ∧ (parseMethodDescriptor "()I").map (fun d => d.parameters.length) = some 0 := by decide +kernel
theorem c_151 : ∀ q ∈ vt_l.getD 107 [], ∃ y b mL r0, mi_l[q.2]? = some (y, b, mL, r0) ∧ sd_Callable "ConeFormsModel" (.invokevirtual 229) 3 1 y b mL r0 (some q.1) := by
  show ∀ q ∈ [(11, 180)], _
  exact List.forall_mem_cons.mpr ⟨⟨⟨"ConeFormsModel", "columns", "()I"⟩, prog_12_method_46_code, 3, (some FieldType.int), by rfl, sd_callV (C := "ConeFormsModel") (Or.inr ⟨_, _, rfl⟩) g_1359 g_1361 sl_121 g_11 g_1362 y_128 (by decide)⟩, fun _ h => absurd h List.not_mem_nil⟩
theorem sl_122 : Cond.selects "ConeFormsModel" ⟨"ConeFormsModel", "good", "(II)Z"⟩ ⟨"ConeFormsModel", "good", "(II)Z"⟩ ∈ gws := gmp (List.mem_map.mpr ⟨(⟨"ConeFormsModel", "good", "(II)Z"⟩, 36), List.mem_of_getElem? (i := 49) (by decide +kernel), rfl⟩) rfl
theorem y_129 : "ConeFormsModel" ≠ "java/lang/invoke/MethodHandle" ∧ "ConeFormsModel" ≠ "java/lang/invoke/VarHandle" ∧ (parseMethodDescriptor "(II)Z").map (fun d => d.parameters.length) = some 2 := by decide +kernel
theorem c_152 : ∀ q ∈ vt_l.getD 108 [], ∃ y b mL r0, mi_l[q.2]? = some (y, b, mL, r0) ∧ sd_Callable "ConeFormsModel" (.invokevirtual 219) 3 3 y b mL r0 (some q.1) := by
  show ∀ q ∈ [(11, 178)], _
  exact List.forall_mem_cons.mpr ⟨⟨⟨"ConeFormsModel", "good", "(II)Z"⟩, prog_12_method_40_code, 3, (some FieldType.boolean), by rfl, sd_callV (C := "ConeFormsModel") (Or.inr ⟨_, _, rfl⟩) g_1351 g_1353 sl_122 g_11 g_1354 y_129 (by decide)⟩, fun _ h => absurd h List.not_mem_nil⟩
theorem sl_123 : Cond.selects "ConeFormsModel" ⟨"ConeFormsModel", "variable", "(I)Z"⟩ ⟨"ConeFormsModel", "variable", "(I)Z"⟩ ∈ gws := gmp (List.mem_map.mpr ⟨(⟨"ConeFormsModel", "variable", "(I)Z"⟩, 36), List.mem_of_getElem? (i := 52) (by decide +kernel), rfl⟩) rfl
theorem y_130 : "ConeFormsModel" ≠ "java/lang/invoke/MethodHandle" ∧ "ConeFormsModel" ≠ "java/lang/invoke/VarHandle" ∧ (parseMethodDescriptor "(I)Z").map (fun d => d.parameters.length) = some 1 := by decide +kernel
theorem c_153 : ∀ q ∈ vt_l.getD 109 [], ∃ y b mL r0, mi_l[q.2]? = some (y, b, mL, r0) ∧ sd_Callable "ConeFormsModel" (.invokevirtual 232) 3 2 y b mL r0 (some q.1) := by
  show ∀ q ∈ [(11, 181)], _
  exact List.forall_mem_cons.mpr ⟨⟨⟨"ConeFormsModel", "variable", "(I)Z"⟩, prog_12_method_45_code, 2, (some FieldType.boolean), by rfl, sd_callV (C := "ConeFormsModel") (Or.inr ⟨_, _, rfl⟩) g_1363 g_1365 sl_123 g_11 g_1366 y_130 (by decide)⟩, fun _ h => absurd h List.not_mem_nil⟩
theorem sl_124 : Cond.selects "ConeFormsModel" ⟨"ConeFormsModel", "auxiliary", "(I)Z"⟩ ⟨"ConeFormsModel", "auxiliary", "(I)Z"⟩ ∈ gws := gmp (List.mem_map.mpr ⟨(⟨"ConeFormsModel", "auxiliary", "(I)Z"⟩, 36), List.mem_of_getElem? (i := 53) (by decide +kernel), rfl⟩) rfl
theorem y_131 : "ConeFormsModel" ≠ "java/lang/invoke/MethodHandle" ∧ "ConeFormsModel" ≠ "java/lang/invoke/VarHandle" ∧ (parseMethodDescriptor "(I)Z").map (fun d => d.parameters.length) = some 1 := by decide +kernel
theorem c_154 : ∀ q ∈ vt_l.getD 110 [], ∃ y b mL r0, mi_l[q.2]? = some (y, b, mL, r0) ∧ sd_Callable "ConeFormsModel" (.invokevirtual 235) 3 2 y b mL r0 (some q.1) := by
  show ∀ q ∈ [(11, 182)], _
  exact List.forall_mem_cons.mpr ⟨⟨⟨"ConeFormsModel", "auxiliary", "(I)Z"⟩, prog_12_method_44_code, 2, (some FieldType.boolean), by rfl, sd_callV (C := "ConeFormsModel") (Or.inr ⟨_, _, rfl⟩) g_1367 g_1369 sl_124 g_11 g_1370 y_131 (by decide)⟩, fun _ h => absurd h List.not_mem_nil⟩
theorem sl_125 : Cond.selects "ConeFormsModel" ⟨"ConeFormsModel", "place", "(I)I"⟩ ⟨"ConeFormsModel", "place", "(I)I"⟩ ∈ gws := gmp (List.mem_map.mpr ⟨(⟨"ConeFormsModel", "place", "(I)I"⟩, 36), List.mem_of_getElem? (i := 54) (by decide +kernel), rfl⟩) rfl
theorem y_132 : "ConeFormsModel" ≠ "java/lang/invoke/MethodHandle" ∧ "ConeFormsModel" ≠ "java/lang/invoke/VarHandle" ∧ (parseMethodDescriptor "(I)I").map (fun d => d.parameters.length) = some 1 := by decide +kernel
theorem c_155 : ∀ q ∈ vt_l.getD 111 [], ∃ y b mL r0, mi_l[q.2]? = some (y, b, mL, r0) ∧ sd_Callable "ConeFormsModel" (.invokevirtual 238) 3 2 y b mL r0 (some q.1) := by
  show ∀ q ∈ [(11, 184)], _
  exact List.forall_mem_cons.mpr ⟨⟨⟨"ConeFormsModel", "place", "(I)I"⟩, prog_12_method_47_code, 5, (some FieldType.int), by rfl, sd_callV (C := "ConeFormsModel") (Or.inr ⟨_, _, rfl⟩) g_1375 g_1377 sl_125 g_11 g_1378 y_132 (by decide)⟩, fun _ h => absurd h List.not_mem_nil⟩
theorem sl_126 : Cond.selects "ConeFormsModel" ⟨"ConeFormsModel", "rowCount", "(I)I"⟩ ⟨"ConeFormsModel", "rowCount", "(I)I"⟩ ∈ gws := gmp (List.mem_map.mpr ⟨(⟨"ConeFormsModel", "rowCount", "(I)I"⟩, 36), List.mem_of_getElem? (i := 55) (by decide +kernel), rfl⟩) rfl
theorem y_133 : "ConeFormsModel" ≠ "java/lang/invoke/MethodHandle" ∧ "ConeFormsModel" ≠ "java/lang/invoke/VarHandle" ∧ (parseMethodDescriptor "(I)I").map (fun d => d.parameters.length) = some 1 := by decide +kernel
theorem c_156 : ∀ q ∈ vt_l.getD 112 [], ∃ y b mL r0, mi_l[q.2]? = some (y, b, mL, r0) ∧ sd_Callable "ConeFormsModel" (.invokevirtual 248) 3 2 y b mL r0 (some q.1) := by
  show ∀ q ∈ [(11, 186)], _
  exact List.forall_mem_cons.mpr ⟨⟨⟨"ConeFormsModel", "rowCount", "(I)I"⟩, prog_12_method_52_code, 4, (some FieldType.int), by rfl, sd_callV (C := "ConeFormsModel") (Or.inr ⟨_, _, rfl⟩) g_1383 g_1385 sl_126 g_11 g_1386 y_133 (by decide)⟩, fun _ h => absurd h List.not_mem_nil⟩
theorem y_134 : "ConeFormsModel" ≠ "java/lang/invoke/MethodHandle" ∧ "ConeFormsModel" ≠ "java/lang/invoke/VarHandle" ∧ (parseMethodDescriptor "(I)I").map (fun d => d.parameters.length) = some 1 := by decide +kernel
theorem c_157 : sd_Callable "ConeFormsModel" (.invokestatic 245) 3 1 ⟨"ConeFormsModel", "rowsOf", "(I)I"⟩ prog_12_method_51_code 1 (some FieldType.int) none := sd_callS g_1387 g_1388 g_11 g_1389 y_134 (by decide)
theorem sl_127 : Cond.selects "ConeFormsModel" ⟨"ConeFormsModel", "allRows", "()I"⟩ ⟨"ConeFormsModel", "allRows", "()I"⟩ ∈ gws := gmp (List.mem_map.mpr ⟨(⟨"ConeFormsModel", "allRows", "()I"⟩, 36), List.mem_of_getElem? (i := 56) (by decide +kernel), rfl⟩) rfl
theorem y_135 : "ConeFormsModel" ≠ "java/lang/invoke/MethodHandle" ∧ "ConeFormsModel" ≠ "java/lang/invoke/VarHandle" ∧ (parseMethodDescriptor "()I").map (fun d => d.parameters.length) = some 0 := by decide +kernel
theorem c_158 : ∀ q ∈ vt_l.getD 113 [], ∃ y b mL r0, mi_l[q.2]? = some (y, b, mL, r0) ∧ sd_Callable "ConeFormsModel" (.invokevirtual 256) 3 1 y b mL r0 (some q.1) := by
  show ∀ q ∈ [(11, 189)], _
  exact List.forall_mem_cons.mpr ⟨⟨⟨"ConeFormsModel", "allRows", "()I"⟩, prog_12_method_56_code, 1, (some FieldType.int), by rfl, sd_callV (C := "ConeFormsModel") (Or.inr ⟨_, _, rfl⟩) g_1394 g_1396 sl_127 g_11 g_1397 y_135 (by decide)⟩, fun _ h => absurd h List.not_mem_nil⟩
theorem sl_128 : Cond.selects "ConeFormsModel" ⟨"ConeFormsModel", "expand", "(I)V"⟩ ⟨"ConeFormsModel", "expand", "(I)V"⟩ ∈ gws := gmp (List.mem_map.mpr ⟨(⟨"ConeFormsModel", "expand", "(I)V"⟩, 36), List.mem_of_getElem? (i := 57) (by decide +kernel), rfl⟩) rfl
theorem y_136 : "ConeFormsModel" ≠ "java/lang/invoke/MethodHandle" ∧ "ConeFormsModel" ≠ "java/lang/invoke/VarHandle" ∧ (parseMethodDescriptor "(I)V").map (fun d => d.parameters.length) = some 1 := by decide +kernel
theorem c_159 : ∀ q ∈ vt_l.getD 114 [], ∃ y b mL r0, mi_l[q.2]? = some (y, b, mL, r0) ∧ sd_Callable "ConeFormsModel" (.invokevirtual 259) 3 2 y b mL r0 (some q.1) := by
  show ∀ q ∈ [(11, 190)], _
  exact List.forall_mem_cons.mpr ⟨⟨⟨"ConeFormsModel", "expand", "(I)V"⟩, prog_12_method_50_code, 5, none, by rfl, sd_callV (C := "ConeFormsModel") (Or.inr ⟨_, _, rfl⟩) g_1398 g_1400 sl_128 g_11 g_1401 y_136 (by decide)⟩, fun _ h => absurd h List.not_mem_nil⟩
theorem sl_129 : Cond.selects "ConeFormsModel" ⟨"ConeFormsModel", "rowValue", "(I)J"⟩ ⟨"ConeFormsModel", "rowValue", "(I)J"⟩ ∈ gws := gmp (List.mem_map.mpr ⟨(⟨"ConeFormsModel", "rowValue", "(I)J"⟩, 36), List.mem_of_getElem? (i := 59) (by decide +kernel), rfl⟩) rfl
theorem y_137 : "ConeFormsModel" ≠ "java/lang/invoke/MethodHandle" ∧ "ConeFormsModel" ≠ "java/lang/invoke/VarHandle" ∧ (parseMethodDescriptor "(I)J").map (fun d => d.parameters.length) = some 1 := by decide +kernel
theorem c_160 : ∀ q ∈ vt_l.getD 115 [], ∃ y b mL r0, mi_l[q.2]? = some (y, b, mL, r0) ∧ sd_Callable "ConeFormsModel" (.invokevirtual 262) 3 2 y b mL r0 (some q.1) := by
  show ∀ q ∈ [(11, 192)], _
  exact List.forall_mem_cons.mpr ⟨⟨⟨"ConeFormsModel", "rowValue", "(I)J"⟩, prog_12_method_55_code, 6, (some FieldType.long), by rfl, sd_callV (C := "ConeFormsModel") (Or.inr ⟨_, _, rfl⟩) g_1406 g_1408 sl_129 g_11 g_1409 y_137 (by decide)⟩, fun _ h => absurd h List.not_mem_nil⟩
theorem sl_130 : Cond.selects "ConeFormsModel" ⟨"ConeFormsModel", "chosen", "(II)J"⟩ ⟨"ConeFormsModel", "chosen", "(II)J"⟩ ∈ gws := gmp (List.mem_map.mpr ⟨(⟨"ConeFormsModel", "chosen", "(II)J"⟩, 36), List.mem_of_getElem? (i := 58) (by decide +kernel), rfl⟩) rfl
theorem y_138 : "ConeFormsModel" ≠ "java/lang/invoke/MethodHandle" ∧ "ConeFormsModel" ≠ "java/lang/invoke/VarHandle" ∧ (parseMethodDescriptor "(II)J").map (fun d => d.parameters.length) = some 2 := by decide +kernel
theorem c_161 : ∀ q ∈ vt_l.getD 116 [], ∃ y b mL r0, mi_l[q.2]? = some (y, b, mL, r0) ∧ sd_Callable "ConeFormsModel" (.invokevirtual 241) 3 3 y b mL r0 (some q.1) := by
  show ∀ q ∈ [(11, 191)], _
  exact List.forall_mem_cons.mpr ⟨⟨⟨"ConeFormsModel", "chosen", "(II)J"⟩, prog_12_method_49_code, 3, (some FieldType.long), by rfl, sd_callV (C := "ConeFormsModel") (Or.inr ⟨_, _, rfl⟩) g_1402 g_1404 sl_130 g_11 g_1405 y_138 (by decide)⟩, fun _ h => absurd h List.not_mem_nil⟩
theorem sl_131 : Cond.selects "ConeFormsModel" ⟨"ConeFormsModel", "rowOf", "(II)J"⟩ ⟨"ConeFormsModel", "rowOf", "(II)J"⟩ ∈ gws := gmp (List.mem_map.mpr ⟨(⟨"ConeFormsModel", "rowOf", "(II)J"⟩, 36), List.mem_of_getElem? (i := 60) (by decide +kernel), rfl⟩) rfl
theorem y_139 : "ConeFormsModel" ≠ "java/lang/invoke/MethodHandle" ∧ "ConeFormsModel" ≠ "java/lang/invoke/VarHandle" ∧ (parseMethodDescriptor "(II)J").map (fun d => d.parameters.length) = some 2 := by decide +kernel
theorem c_162 : ∀ q ∈ vt_l.getD 117 [], ∃ y b mL r0, mi_l[q.2]? = some (y, b, mL, r0) ∧ sd_Callable "ConeFormsModel" (.invokevirtual 253) 3 3 y b mL r0 (some q.1) := by
  show ∀ q ∈ [(11, 193)], _
  exact List.forall_mem_cons.mpr ⟨⟨⟨"ConeFormsModel", "rowOf", "(II)J"⟩, prog_12_method_54_code, 13, (some FieldType.long), by rfl, sd_callV (C := "ConeFormsModel") (Or.inr ⟨_, _, rfl⟩) g_1410 g_1412 sl_131 g_11 g_1413 y_139 (by decide)⟩, fun _ h => absurd h List.not_mem_nil⟩
theorem y_140 : "ConeFormsModel" ≠ "java/lang/invoke/MethodHandle" ∧ "ConeFormsModel" ≠ "java/lang/invoke/VarHandle" ∧ (parseMethodDescriptor "(JJJ)Z").map (fun d => d.parameters.length) = some 3 := by decide +kernel
theorem c_163 : sd_Callable "ConeFormsModel" (.invokestatic 267) 3 3 ⟨"ConeFormsModel", "inside", "(JJJ)Z"⟩ prog_12_method_60_code 6 (some FieldType.boolean) none := sd_callS g_1428 g_1429 g_11 g_1430 y_140 (by decide)
theorem y_141 : "ConeForms" ≠ "java/lang/invoke/MethodHandle" ∧ "ConeForms" ≠ "java/lang/invoke/VarHandle" ∧ (parseMethodDescriptor "()V").map (fun d => d.parameters.length) = some 0 := by decide +kernel
theorem c_164 : ∀ q ∈ vt_l.getD 118 [], ∃ y b mL r0, mi_l[q.2]? = some (y, b, mL, r0) ∧ sd_Callable "ConeFormsLaw" (.invokespecial 9) 3 1 y b mL r0 (some q.1) := by
  show ∀ q ∈ [(4, 0)], _
  exact List.forall_mem_cons.mpr ⟨⟨⟨"ConeForms", "<init>", "()V"⟩, prog_1_method_3_code, 1, none, by rfl, sd_callI g_30 g_31 g_1 g_32 rfl y_141 (by decide) (by decide)⟩, fun _ h => absurd h List.not_mem_nil⟩
theorem y_142 : "ConeFormsModel" ≠ "java/lang/invoke/MethodHandle" ∧ "ConeFormsModel" ≠ "java/lang/invoke/VarHandle" ∧ (parseMethodDescriptor "()V").map (fun d => d.parameters.length) = some 0 := by decide +kernel
theorem c_165 : ∀ q ∈ vt_l.getD 119 [], ∃ y b mL r0, mi_l[q.2]? = some (y, b, mL, r0) ∧ sd_Callable "ConeFormsLaw" (.invokespecial 12) 3 1 y b mL r0 (some q.1) := by
  show ∀ q ∈ [(11, 137)], _
  exact List.forall_mem_cons.mpr ⟨⟨⟨"ConeFormsModel", "<init>", "()V"⟩, prog_12_method_1_code, 1, none, by rfl, sd_callI g_1076 g_1077 g_11 g_1078 rfl y_142 (by decide) (by decide)⟩, fun _ h => absurd h List.not_mem_nil⟩
theorem y_143 : "ConeForms" ≠ "java/lang/invoke/MethodHandle" ∧ "ConeForms" ≠ "java/lang/invoke/VarHandle" ∧ (parseMethodDescriptor "(C)Z").map (fun d => d.parameters.length) = some 1 := by decide +kernel
theorem c_166 : ∀ q ∈ vt_l.getD 120 [], ∃ y b mL r0, mi_l[q.2]? = some (y, b, mL, r0) ∧ sd_Callable "ConeFormsLaw" (.invokevirtual 13) 3 2 y b mL r0 (some q.1) := by
  show ∀ q ∈ [(4, 8)], _
  exact List.forall_mem_cons.mpr ⟨⟨⟨"ConeForms", "type", "(C)Z"⟩, prog_1_method_4_code, 2, (some FieldType.boolean), by rfl, sd_callV (C := "ConeForms") (Or.inr ⟨_, _, rfl⟩) g_208 g_209 g_210 g_1 g_211 y_143 (by decide)⟩, fun _ h => absurd h List.not_mem_nil⟩
theorem y_144 : "ConeFormsModel" ≠ "java/lang/invoke/MethodHandle" ∧ "ConeFormsModel" ≠ "java/lang/invoke/VarHandle" ∧ (parseMethodDescriptor "(C)Z").map (fun d => d.parameters.length) = some 1 := by decide +kernel
theorem c_167 : ∀ q ∈ vt_l.getD 121 [], ∃ y b mL r0, mi_l[q.2]? = some (y, b, mL, r0) ∧ sd_Callable "ConeFormsLaw" (.invokevirtual 17) 3 2 y b mL r0 (some q.1) := by
  show ∀ q ∈ [(11, 138)], _
  exact List.forall_mem_cons.mpr ⟨⟨⟨"ConeFormsModel", "type", "(C)Z"⟩, prog_12_method_2_code, 2, (some FieldType.boolean), by rfl, sd_callV (C := "ConeFormsModel") (Or.inr ⟨_, _, rfl⟩) g_1191 g_1192 g_1193 g_11 g_1194 y_144 (by decide)⟩, fun _ h => absurd h List.not_mem_nil⟩
theorem y_145 : "ConeForms" ≠ "java/lang/invoke/MethodHandle" ∧ "ConeForms" ≠ "java/lang/invoke/VarHandle" ∧ (parseMethodDescriptor "()V").map (fun d => d.parameters.length) = some 0 := by decide +kernel
theorem c_168 : ∀ q ∈ vt_l.getD 122 [], ∃ y b mL r0, mi_l[q.2]? = some (y, b, mL, r0) ∧ sd_Callable "ConeFormsLaw" (.invokevirtual 18) 3 1 y b mL r0 (some q.1) := by
  show ∀ q ∈ [(4, 23)], _
  exact List.forall_mem_cons.mpr ⟨⟨⟨"ConeForms", "wipe", "()V"⟩, prog_1_method_5_code, 1, none, by rfl, sd_callV (C := "ConeForms") (Or.inr ⟨_, _, rfl⟩) g_314 g_315 g_316 g_1 g_317 y_145 (by decide)⟩, fun _ h => absurd h List.not_mem_nil⟩
theorem y_146 : "ConeFormsModel" ≠ "java/lang/invoke/MethodHandle" ∧ "ConeFormsModel" ≠ "java/lang/invoke/VarHandle" ∧ (parseMethodDescriptor "()V").map (fun d => d.parameters.length) = some 0 := by decide +kernel
theorem c_169 : ∀ q ∈ vt_l.getD 123 [], ∃ y b mL r0, mi_l[q.2]? = some (y, b, mL, r0) ∧ sd_Callable "ConeFormsLaw" (.invokevirtual 21) 3 1 y b mL r0 (some q.1) := by
  show ∀ q ∈ [(11, 139)], _
  exact List.forall_mem_cons.mpr ⟨⟨⟨"ConeFormsModel", "wipe", "()V"⟩, prog_12_method_3_code, 1, none, by rfl, sd_callV (C := "ConeFormsModel") (Or.inr ⟨_, _, rfl⟩) g_1195 g_1196 g_1197 g_11 g_1198 y_146 (by decide)⟩, fun _ h => absurd h List.not_mem_nil⟩
theorem y_147 : "ConeForms" ≠ "java/lang/invoke/MethodHandle" ∧ "ConeForms" ≠ "java/lang/invoke/VarHandle" ∧ (parseMethodDescriptor "()I").map (fun d => d.parameters.length) = some 0 := by decide +kernel
theorem c_170 : ∀ q ∈ vt_l.getD 124 [], ∃ y b mL r0, mi_l[q.2]? = some (y, b, mL, r0) ∧ sd_Callable "ConeFormsLaw" (.invokevirtual 22) 3 1 y b mL r0 (some q.1) := by
  show ∀ q ∈ [(4, 26)], _
  exact List.forall_mem_cons.mpr ⟨⟨⟨"ConeForms", "read", "()I"⟩, prog_1_method_6_code, 3, (some FieldType.int), by rfl, sd_callV (C := "ConeForms") (Or.inr ⟨_, _, rfl⟩) g_338 g_339 g_340 g_1 g_341 y_147 (by decide)⟩, fun _ h => absurd h List.not_mem_nil⟩
theorem y_148 : "ConeFormsModel" ≠ "java/lang/invoke/MethodHandle" ∧ "ConeFormsModel" ≠ "java/lang/invoke/VarHandle" ∧ (parseMethodDescriptor "()I").map (fun d => d.parameters.length) = some 0 := by decide +kernel
theorem c_171 : ∀ q ∈ vt_l.getD 125 [], ∃ y b mL r0, mi_l[q.2]? = some (y, b, mL, r0) ∧ sd_Callable "ConeFormsLaw" (.invokevirtual 26) 3 1 y b mL r0 (some q.1) := by
  show ∀ q ∈ [(11, 140)], _
  exact List.forall_mem_cons.mpr ⟨⟨⟨"ConeFormsModel", "read", "()I"⟩, prog_12_method_18_code, 4, (some FieldType.int), by rfl, sd_callV (C := "ConeFormsModel") (Or.inr ⟨_, _, rfl⟩) g_1199 g_1200 g_1201 g_11 g_1202 y_148 (by decide)⟩, fun _ h => absurd h List.not_mem_nil⟩
theorem y_149 : "ConeForms" ≠ "java/lang/invoke/MethodHandle" ∧ "ConeForms" ≠ "java/lang/invoke/VarHandle" ∧ (parseMethodDescriptor "()I").map (fun d => d.parameters.length) = some 0 := by decide +kernel
theorem c_172 : ∀ q ∈ vt_l.getD 126 [], ∃ y b mL r0, mi_l[q.2]? = some (y, b, mL, r0) ∧ sd_Callable "ConeFormsLaw" (.invokevirtual 27) 3 1 y b mL r0 (some q.1) := by
  show ∀ q ∈ [(4, 86)], _
  exact List.forall_mem_cons.mpr ⟨⟨⟨"ConeForms", "nodes", "()I"⟩, prog_1_method_12_code, 1, (some FieldType.int), by rfl, sd_callV (C := "ConeForms") (Or.inr ⟨_, _, rfl⟩) g_808 g_809 g_810 g_1 g_811 y_149 (by decide)⟩, fun _ h => absurd h List.not_mem_nil⟩
theorem y_150 : "ConeFormsModel" ≠ "java/lang/invoke/MethodHandle" ∧ "ConeFormsModel" ≠ "java/lang/invoke/VarHandle" ∧ (parseMethodDescriptor "()I").map (fun d => d.parameters.length) = some 0 := by decide +kernel
theorem c_173 : ∀ q ∈ vt_l.getD 127 [], ∃ y b mL r0, mi_l[q.2]? = some (y, b, mL, r0) ∧ sd_Callable "ConeFormsLaw" (.invokevirtual 30) 3 1 y b mL r0 (some q.1) := by
  show ∀ q ∈ [(11, 155)], _
  exact List.forall_mem_cons.mpr ⟨⟨⟨"ConeFormsModel", "nodes", "()I"⟩, prog_12_method_19_code, 1, (some FieldType.int), by rfl, sd_callV (C := "ConeFormsModel") (Or.inr ⟨_, _, rfl⟩) g_1260 g_1261 g_1262 g_11 g_1263 y_150 (by decide)⟩, fun _ h => absurd h List.not_mem_nil⟩
theorem y_151 : "ConeForms" ≠ "java/lang/invoke/MethodHandle" ∧ "ConeForms" ≠ "java/lang/invoke/VarHandle" ∧ (parseMethodDescriptor "(I)I").map (fun d => d.parameters.length) = some 1 := by decide +kernel
theorem c_174 : ∀ q ∈ vt_l.getD 128 [], ∃ y b mL r0, mi_l[q.2]? = some (y, b, mL, r0) ∧ sd_Callable "ConeFormsLaw" (.invokevirtual 31) 3 2 y b mL r0 (some q.1) := by
  show ∀ q ∈ [(4, 87)], _
  exact List.forall_mem_cons.mpr ⟨⟨⟨"ConeForms", "attributes", "(I)I"⟩, prog_1_method_13_code, 3, (some FieldType.int), by rfl, sd_callV (C := "ConeForms") (Or.inr ⟨_, _, rfl⟩) g_812 g_813 g_814 g_1 g_815 y_151 (by decide)⟩, fun _ h => absurd h List.not_mem_nil⟩
theorem y_152 : "ConeFormsModel" ≠ "java/lang/invoke/MethodHandle" ∧ "ConeFormsModel" ≠ "java/lang/invoke/VarHandle" ∧ (parseMethodDescriptor "(I)I").map (fun d => d.parameters.length) = some 1 := by decide +kernel
theorem c_175 : ∀ q ∈ vt_l.getD 129 [], ∃ y b mL r0, mi_l[q.2]? = some (y, b, mL, r0) ∧ sd_Callable "ConeFormsLaw" (.invokevirtual 35) 3 2 y b mL r0 (some q.1) := by
  show ∀ q ∈ [(11, 156)], _
  exact List.forall_mem_cons.mpr ⟨⟨⟨"ConeFormsModel", "attributes", "(I)I"⟩, prog_12_method_31_code, 2, (some FieldType.int), by rfl, sd_callV (C := "ConeFormsModel") (Or.inr ⟨_, _, rfl⟩) g_1264 g_1265 g_1266 g_11 g_1267 y_152 (by decide)⟩, fun _ h => absurd h List.not_mem_nil⟩
theorem y_153 : "ConeForms" ≠ "java/lang/invoke/MethodHandle" ∧ "ConeForms" ≠ "java/lang/invoke/VarHandle" ∧ (parseMethodDescriptor "(I)I").map (fun d => d.parameters.length) = some 1 := by decide +kernel
theorem c_176 : ∀ q ∈ vt_l.getD 130 [], ∃ y b mL r0, mi_l[q.2]? = some (y, b, mL, r0) ∧ sd_Callable "ConeFormsLaw" (.invokevirtual 36) 3 2 y b mL r0 (some q.1) := by
  show ∀ q ∈ [(4, 89)], _
  exact List.forall_mem_cons.mpr ⟨⟨⟨"ConeForms", "reach", "(I)I"⟩, prog_1_method_14_code, 3, (some FieldType.int), by rfl, sd_callV (C := "ConeForms") (Or.inr ⟨_, _, rfl⟩) g_820 g_821 g_822 g_1 g_823 y_153 (by decide)⟩, fun _ h => absurd h List.not_mem_nil⟩
theorem y_154 : "ConeFormsModel" ≠ "java/lang/invoke/MethodHandle" ∧ "ConeFormsModel" ≠ "java/lang/invoke/VarHandle" ∧ (parseMethodDescriptor "(I)I").map (fun d => d.parameters.length) = some 1 := by decide +kernel
theorem c_177 : ∀ q ∈ vt_l.getD 131 [], ∃ y b mL r0, mi_l[q.2]? = some (y, b, mL, r0) ∧ sd_Callable "ConeFormsLaw" (.invokevirtual 39) 3 2 y b mL r0 (some q.1) := by
  show ∀ q ∈ [(11, 168)], _
  exact List.forall_mem_cons.mpr ⟨⟨⟨"ConeFormsModel", "reach", "(I)I"⟩, prog_12_method_32_code, 2, (some FieldType.int), by rfl, sd_callV (C := "ConeFormsModel") (Or.inr ⟨_, _, rfl⟩) g_1311 g_1312 g_1313 g_11 g_1314 y_154 (by decide)⟩, fun _ h => absurd h List.not_mem_nil⟩
theorem y_155 : "ConeForms" ≠ "java/lang/invoke/MethodHandle" ∧ "ConeForms" ≠ "java/lang/invoke/VarHandle" ∧ (parseMethodDescriptor "(II)Z").map (fun d => d.parameters.length) = some 2 := by decide +kernel
theorem c_178 : ∀ q ∈ vt_l.getD 132 [], ∃ y b mL r0, mi_l[q.2]? = some (y, b, mL, r0) ∧ sd_Callable "ConeFormsLaw" (.invokevirtual 40) 3 3 y b mL r0 (some q.1) := by
  show ∀ q ∈ [(4, 91)], _
  exact List.forall_mem_cons.mpr ⟨⟨⟨"ConeForms", "set", "(II)Z"⟩, prog_1_method_17_code, 8, (some FieldType.boolean), by rfl, sd_callV (C := "ConeForms") (Or.inr ⟨_, _, rfl⟩) g_828 g_829 g_830 g_1 g_831 y_155 (by decide)⟩, fun _ h => absurd h List.not_mem_nil⟩
theorem y_156 : "ConeFormsModel" ≠ "java/lang/invoke/MethodHandle" ∧ "ConeFormsModel" ≠ "java/lang/invoke/VarHandle" ∧ (parseMethodDescriptor "(II)Z").map (fun d => d.parameters.length) = some 2 := by decide +kernel
theorem c_179 : ∀ q ∈ vt_l.getD 133 [], ∃ y b mL r0, mi_l[q.2]? = some (y, b, mL, r0) ∧ sd_Callable "ConeFormsLaw" (.invokevirtual 44) 3 3 y b mL r0 (some q.1) := by
  show ∀ q ∈ [(11, 194)], _
  exact List.forall_mem_cons.mpr ⟨⟨⟨"ConeFormsModel", "set", "(II)Z"⟩, prog_12_method_58_code, 4, (some FieldType.boolean), by rfl, sd_callV (C := "ConeFormsModel") (Or.inr ⟨_, _, rfl⟩) g_1415 g_1416 g_1417 g_11 g_1418 y_156 (by decide)⟩, fun _ h => absurd h List.not_mem_nil⟩
theorem y_157 : "ConeForms" ≠ "java/lang/invoke/MethodHandle" ∧ "ConeForms" ≠ "java/lang/invoke/VarHandle" ∧ (parseMethodDescriptor "(I)I").map (fun d => d.parameters.length) = some 1 := by decide +kernel
theorem c_180 : ∀ q ∈ vt_l.getD 134 [], ∃ y b mL r0, mi_l[q.2]? = some (y, b, mL, r0) ∧ sd_Callable "ConeFormsLaw" (.invokevirtual 45) 3 2 y b mL r0 (some q.1) := by
  show ∀ q ∈ [(4, 90)], _
  exact List.forall_mem_cons.mpr ⟨⟨⟨"ConeForms", "value", "(I)I"⟩, prog_1_method_15_code, 3, (some FieldType.int), by rfl, sd_callV (C := "ConeForms") (Or.inr ⟨_, _, rfl⟩) g_824 g_825 g_826 g_1 g_827 y_157 (by decide)⟩, fun _ h => absurd h List.not_mem_nil⟩
theorem y_158 : "ConeFormsModel" ≠ "java/lang/invoke/MethodHandle" ∧ "ConeFormsModel" ≠ "java/lang/invoke/VarHandle" ∧ (parseMethodDescriptor "(I)I").map (fun d => d.parameters.length) = some 1 := by decide +kernel
theorem c_181 : ∀ q ∈ vt_l.getD 135 [], ∃ y b mL r0, mi_l[q.2]? = some (y, b, mL, r0) ∧ sd_Callable "ConeFormsLaw" (.invokevirtual 48) 3 2 y b mL r0 (some q.1) := by
  show ∀ q ∈ [(11, 169)], _
  exact List.forall_mem_cons.mpr ⟨⟨⟨"ConeFormsModel", "value", "(I)I"⟩, prog_12_method_33_code, 2, (some FieldType.int), by rfl, sd_callV (C := "ConeFormsModel") (Or.inr ⟨_, _, rfl⟩) g_1315 g_1316 g_1317 g_11 g_1318 y_158 (by decide)⟩, fun _ h => absurd h List.not_mem_nil⟩
theorem y_159 : "ConeForms" ≠ "java/lang/invoke/MethodHandle" ∧ "ConeForms" ≠ "java/lang/invoke/VarHandle" ∧ (parseMethodDescriptor "(I)I").map (fun d => d.parameters.length) = some 1 := by decide +kernel
theorem c_182 : ∀ q ∈ vt_l.getD 136 [], ∃ y b mL r0, mi_l[q.2]? = some (y, b, mL, r0) ∧ sd_Callable "ConeFormsLaw" (.invokevirtual 49) 3 2 y b mL r0 (some q.1) := by
  show ∀ q ∈ [(4, 104)], _
  exact List.forall_mem_cons.mpr ⟨⟨⟨"ConeForms", "culprit", "(I)I"⟩, prog_1_method_20_code, 4, (some FieldType.int), by rfl, sd_callV (C := "ConeForms") (Or.inr ⟨_, _, rfl⟩) g_893 g_894 g_895 g_1 g_896 y_159 (by decide)⟩, fun _ h => absurd h List.not_mem_nil⟩
theorem y_160 : "ConeFormsModel" ≠ "java/lang/invoke/MethodHandle" ∧ "ConeFormsModel" ≠ "java/lang/invoke/VarHandle" ∧ (parseMethodDescriptor "(I)I").map (fun d => d.parameters.length) = some 1 := by decide +kernel
theorem c_183 : ∀ q ∈ vt_l.getD 137 [], ∃ y b mL r0, mi_l[q.2]? = some (y, b, mL, r0) ∧ sd_Callable "ConeFormsLaw" (.invokevirtual 52) 3 2 y b mL r0 (some q.1) := by
  show ∀ q ∈ [(11, 170)], _
  exact List.forall_mem_cons.mpr ⟨⟨⟨"ConeFormsModel", "culprit", "(I)I"⟩, prog_12_method_35_code, 2, (some FieldType.int), by rfl, sd_callV (C := "ConeFormsModel") (Or.inr ⟨_, _, rfl⟩) g_1319 g_1320 g_1321 g_11 g_1322 y_160 (by decide)⟩, fun _ h => absurd h List.not_mem_nil⟩
theorem y_161 : "ConeForms" ≠ "java/lang/invoke/MethodHandle" ∧ "ConeForms" ≠ "java/lang/invoke/VarHandle" ∧ (parseMethodDescriptor "(IZ)Z").map (fun d => d.parameters.length) = some 2 := by decide +kernel
theorem c_184 : ∀ q ∈ vt_l.getD 138 [], ∃ y b mL r0, mi_l[q.2]? = some (y, b, mL, r0) ∧ sd_Callable "ConeFormsLaw" (.invokevirtual 53) 3 3 y b mL r0 (some q.1) := by
  show ∀ q ∈ [(4, 107)], _
  exact List.forall_mem_cons.mpr ⟨⟨⟨"ConeForms", "objective", "(IZ)Z"⟩, prog_1_method_22_code, 4, (some FieldType.boolean), by rfl, sd_callV (C := "ConeForms") (Or.inr ⟨_, _, rfl⟩) g_904 g_905 g_906 g_1 g_907 y_161 (by decide)⟩, fun _ h => absurd h List.not_mem_nil⟩
theorem y_162 : "ConeFormsModel" ≠ "java/lang/invoke/MethodHandle" ∧ "ConeFormsModel" ≠ "java/lang/invoke/VarHandle" ∧ (parseMethodDescriptor "(IZ)Z").map (fun d => d.parameters.length) = some 2 := by decide +kernel
theorem c_185 : ∀ q ∈ vt_l.getD 139 [], ∃ y b mL r0, mi_l[q.2]? = some (y, b, mL, r0) ∧ sd_Callable "ConeFormsLaw" (.invokevirtual 57) 3 3 y b mL r0 (some q.1) := by
  show ∀ q ∈ [(11, 172)], _
  exact List.forall_mem_cons.mpr ⟨⟨⟨"ConeFormsModel", "objective", "(IZ)Z"⟩, prog_12_method_36_code, 3, (some FieldType.boolean), by rfl, sd_callV (C := "ConeFormsModel") (Or.inr ⟨_, _, rfl⟩) g_1327 g_1328 g_1329 g_11 g_1330 y_162 (by decide)⟩, fun _ h => absurd h List.not_mem_nil⟩
theorem y_163 : "ConeForms" ≠ "java/lang/invoke/MethodHandle" ∧ "ConeForms" ≠ "java/lang/invoke/VarHandle" ∧ (parseMethodDescriptor "(ZII)Z").map (fun d => d.parameters.length) = some 3 := by decide +kernel
theorem c_186 : ∀ q ∈ vt_l.getD 140 [], ∃ y b mL r0, mi_l[q.2]? = some (y, b, mL, r0) ∧ sd_Callable "ConeFormsLaw" (.invokevirtual 58) 3 4 y b mL r0 (some q.1) := by
  show ∀ q ∈ [(4, 110)], _
  exact List.forall_mem_cons.mpr ⟨⟨⟨"ConeForms", "require", "(ZII)Z"⟩, prog_1_method_23_code, 8, (some FieldType.boolean), by rfl, sd_callV (C := "ConeForms") (Or.inr ⟨_, _, rfl⟩) g_916 g_917 g_918 g_1 g_919 y_163 (by decide)⟩, fun _ h => absurd h List.not_mem_nil⟩
theorem y_164 : "ConeFormsModel" ≠ "java/lang/invoke/MethodHandle" ∧ "ConeFormsModel" ≠ "java/lang/invoke/VarHandle" ∧ (parseMethodDescriptor "(ZII)Z").map (fun d => d.parameters.length) = some 3 := by decide +kernel
theorem c_187 : ∀ q ∈ vt_l.getD 141 [], ∃ y b mL r0, mi_l[q.2]? = some (y, b, mL, r0) ∧ sd_Callable "ConeFormsLaw" (.invokevirtual 62) 3 4 y b mL r0 (some q.1) := by
  show ∀ q ∈ [(11, 173)], _
  exact List.forall_mem_cons.mpr ⟨⟨⟨"ConeFormsModel", "require", "(ZII)Z"⟩, prog_12_method_37_code, 4, (some FieldType.boolean), by rfl, sd_callV (C := "ConeFormsModel") (Or.inr ⟨_, _, rfl⟩) g_1331 g_1332 g_1333 g_11 g_1334 y_164 (by decide)⟩, fun _ h => absurd h List.not_mem_nil⟩
theorem y_165 : "ConeForms" ≠ "java/lang/invoke/MethodHandle" ∧ "ConeForms" ≠ "java/lang/invoke/VarHandle" ∧ (parseMethodDescriptor "(I)Z").map (fun d => d.parameters.length) = some 1 := by decide +kernel
theorem c_188 : ∀ q ∈ vt_l.getD 142 [], ∃ y b mL r0, mi_l[q.2]? = some (y, b, mL, r0) ∧ sd_Callable "ConeFormsLaw" (.invokevirtual 63) 3 2 y b mL r0 (some q.1) := by
  show ∀ q ∈ [(4, 112)], _
  exact List.forall_mem_cons.mpr ⟨⟨⟨"ConeForms", "withdraw", "(I)Z"⟩, prog_1_method_24_code, 4, (some FieldType.boolean), by rfl, sd_callV (C := "ConeForms") (Or.inr ⟨_, _, rfl⟩) g_942 g_943 g_944 g_1 g_945 y_165 (by decide)⟩, fun _ h => absurd h List.not_mem_nil⟩
theorem y_166 : "ConeFormsModel" ≠ "java/lang/invoke/MethodHandle" ∧ "ConeFormsModel" ≠ "java/lang/invoke/VarHandle" ∧ (parseMethodDescriptor "(I)Z").map (fun d => d.parameters.length) = some 1 := by decide +kernel
theorem c_189 : ∀ q ∈ vt_l.getD 143 [], ∃ y b mL r0, mi_l[q.2]? = some (y, b, mL, r0) ∧ sd_Callable "ConeFormsLaw" (.invokevirtual 67) 3 2 y b mL r0 (some q.1) := by
  show ∀ q ∈ [(11, 174)], _
  exact List.forall_mem_cons.mpr ⟨⟨⟨"ConeFormsModel", "withdraw", "(I)Z"⟩, prog_12_method_38_code, 3, (some FieldType.boolean), by rfl, sd_callV (C := "ConeFormsModel") (Or.inr ⟨_, _, rfl⟩) g_1335 g_1336 g_1337 g_11 g_1338 y_166 (by decide)⟩, fun _ h => absurd h List.not_mem_nil⟩
theorem y_167 : "ConeForms" ≠ "java/lang/invoke/MethodHandle" ∧ "ConeForms" ≠ "java/lang/invoke/VarHandle" ∧ (parseMethodDescriptor "()I").map (fun d => d.parameters.length) = some 0 := by decide +kernel
theorem c_190 : ∀ q ∈ vt_l.getD 144 [], ∃ y b mL r0, mi_l[q.2]? = some (y, b, mL, r0) ∧ sd_Callable "ConeFormsLaw" (.invokevirtual 68) 3 1 y b mL r0 (some q.1) := by
  show ∀ q ∈ [(4, 113)], _
  exact List.forall_mem_cons.mpr ⟨⟨⟨"ConeForms", "compile", "()I"⟩, prog_1_method_27_code, 4, (some FieldType.int), by rfl, sd_callV (C := "ConeForms") (Or.inr ⟨_, _, rfl⟩) g_946 g_947 g_948 g_1 g_949 y_167 (by decide)⟩, fun _ h => absurd h List.not_mem_nil⟩
theorem y_168 : "ConeFormsModel" ≠ "java/lang/invoke/MethodHandle" ∧ "ConeFormsModel" ≠ "java/lang/invoke/VarHandle" ∧ (parseMethodDescriptor "()I").map (fun d => d.parameters.length) = some 0 := by decide +kernel
theorem c_191 : ∀ q ∈ vt_l.getD 145 [], ∃ y b mL r0, mi_l[q.2]? = some (y, b, mL, r0) ∧ sd_Callable "ConeFormsLaw" (.invokevirtual 71) 3 1 y b mL r0 (some q.1) := by
  show ∀ q ∈ [(11, 176)], _
  exact List.forall_mem_cons.mpr ⟨⟨⟨"ConeFormsModel", "compile", "()I"⟩, prog_12_method_42_code, 3, (some FieldType.int), by rfl, sd_callV (C := "ConeFormsModel") (Or.inr ⟨_, _, rfl⟩) g_1343 g_1344 g_1345 g_11 g_1346 y_168 (by decide)⟩, fun _ h => absurd h List.not_mem_nil⟩
theorem y_169 : "ConeForms" ≠ "java/lang/invoke/MethodHandle" ∧ "ConeForms" ≠ "java/lang/invoke/VarHandle" ∧ (parseMethodDescriptor "(I)I").map (fun d => d.parameters.length) = some 1 := by decide +kernel
theorem c_192 : ∀ q ∈ vt_l.getD 146 [], ∃ y b mL r0, mi_l[q.2]? = some (y, b, mL, r0) ∧ sd_Callable "ConeFormsLaw" (.invokevirtual 72) 3 2 y b mL r0 (some q.1) := by
  show ∀ q ∈ [(4, 118)], _
  exact List.forall_mem_cons.mpr ⟨⟨⟨"ConeForms", "rows", "(I)I"⟩, prog_1_method_33_code, 2, (some FieldType.int), by rfl, sd_callV (C := "ConeForms") (Or.inr ⟨_, _, rfl⟩) g_967 g_968 g_969 g_1 g_970 y_169 (by decide)⟩, fun _ h => absurd h List.not_mem_nil⟩
theorem y_170 : "ConeFormsModel" ≠ "java/lang/invoke/MethodHandle" ∧ "ConeFormsModel" ≠ "java/lang/invoke/VarHandle" ∧ (parseMethodDescriptor "(I)I").map (fun d => d.parameters.length) = some 1 := by decide +kernel
theorem c_193 : ∀ q ∈ vt_l.getD 147 [], ∃ y b mL r0, mi_l[q.2]? = some (y, b, mL, r0) ∧ sd_Callable "ConeFormsLaw" (.invokevirtual 75) 3 2 y b mL r0 (some q.1) := by
  show ∀ q ∈ [(11, 185)], _
  exact List.forall_mem_cons.mpr ⟨⟨⟨"ConeFormsModel", "rows", "(I)I"⟩, prog_12_method_53_code, 2, (some FieldType.int), by rfl, sd_callV (C := "ConeFormsModel") (Or.inr ⟨_, _, rfl⟩) g_1379 g_1380 g_1381 g_11 g_1382 y_170 (by decide)⟩, fun _ h => absurd h List.not_mem_nil⟩
theorem y_171 : "ConeForms" ≠ "java/lang/invoke/MethodHandle" ∧ "ConeForms" ≠ "java/lang/invoke/VarHandle" ∧ (parseMethodDescriptor "(II)I").map (fun d => d.parameters.length) = some 2 := by decide +kernel
theorem c_194 : ∀ q ∈ vt_l.getD 148 [], ∃ y b mL r0, mi_l[q.2]? = some (y, b, mL, r0) ∧ sd_Callable "ConeFormsLaw" (.invokevirtual 76) 3 3 y b mL r0 (some q.1) := by
  show ∀ q ∈ [(4, 119)], _
  exact List.forall_mem_cons.mpr ⟨⟨⟨"ConeForms", "entry", "(II)I"⟩, prog_1_method_34_code, 4, (some FieldType.int), by rfl, sd_callV (C := "ConeForms") (Or.inr ⟨_, _, rfl⟩) g_971 g_972 g_973 g_1 g_974 y_171 (by decide)⟩, fun _ h => absurd h List.not_mem_nil⟩
theorem y_172 : "ConeFormsModel" ≠ "java/lang/invoke/MethodHandle" ∧ "ConeFormsModel" ≠ "java/lang/invoke/VarHandle" ∧ (parseMethodDescriptor "(II)I").map (fun d => d.parameters.length) = some 2 := by decide +kernel
theorem c_195 : ∀ q ∈ vt_l.getD 149 [], ∃ y b mL r0, mi_l[q.2]? = some (y, b, mL, r0) ∧ sd_Callable "ConeFormsLaw" (.invokevirtual 80) 3 3 y b mL r0 (some q.1) := by
  show ∀ q ∈ [(11, 188)], _
  exact List.forall_mem_cons.mpr ⟨⟨⟨"ConeFormsModel", "entry", "(II)I"⟩, prog_12_method_57_code, 7, (some FieldType.int), by rfl, sd_callV (C := "ConeFormsModel") (Or.inr ⟨_, _, rfl⟩) g_1390 g_1391 g_1392 g_11 g_1393 y_172 (by decide)⟩, fun _ h => absurd h List.not_mem_nil⟩
theorem y_173 : "ConeForms" ≠ "java/lang/invoke/MethodHandle" ∧ "ConeForms" ≠ "java/lang/invoke/VarHandle" ∧ (parseMethodDescriptor "(I)I").map (fun d => d.parameters.length) = some 1 := by decide +kernel
theorem c_196 : ∀ q ∈ vt_l.getD 150 [], ∃ y b mL r0, mi_l[q.2]? = some (y, b, mL, r0) ∧ sd_Callable "ConeFormsLaw" (.invokevirtual 81) 3 2 y b mL r0 (some q.1) := by
  show ∀ q ∈ [(4, 121)], _
  exact List.forall_mem_cons.mpr ⟨⟨⟨"ConeForms", "column", "(I)I"⟩, prog_1_method_35_code, 3, (some FieldType.int), by rfl, sd_callV (C := "ConeForms") (Or.inr ⟨_, _, rfl⟩) g_979 g_980 g_981 g_1 g_982 y_173 (by decide)⟩, fun _ h => absurd h List.not_mem_nil⟩
theorem y_174 : "ConeFormsModel" ≠ "java/lang/invoke/MethodHandle" ∧ "ConeFormsModel" ≠ "java/lang/invoke/VarHandle" ∧ (parseMethodDescriptor "(I)I").map (fun d => d.parameters.length) = some 1 := by decide +kernel
theorem c_197 : ∀ q ∈ vt_l.getD 151 [], ∃ y b mL r0, mi_l[q.2]? = some (y, b, mL, r0) ∧ sd_Callable "ConeFormsLaw" (.invokevirtual 84) 3 2 y b mL r0 (some q.1) := by
  show ∀ q ∈ [(11, 183)], _
  exact List.forall_mem_cons.mpr ⟨⟨⟨"ConeFormsModel", "column", "(I)I"⟩, prog_12_method_48_code, 2, (some FieldType.int), by rfl, sd_callV (C := "ConeFormsModel") (Or.inr ⟨_, _, rfl⟩) g_1371 g_1372 g_1373 g_11 g_1374 y_174 (by decide)⟩, fun _ h => absurd h List.not_mem_nil⟩
theorem y_175 : "ConeForms" ≠ "java/lang/invoke/MethodHandle" ∧ "ConeForms" ≠ "java/lang/invoke/VarHandle" ∧ (parseMethodDescriptor "()Z").map (fun d => d.parameters.length) = some 0 := by decide +kernel
theorem c_198 : ∀ q ∈ vt_l.getD 152 [], ∃ y b mL r0, mi_l[q.2]? = some (y, b, mL, r0) ∧ sd_Callable "ConeFormsLaw" (.invokevirtual 85) 3 1 y b mL r0 (some q.1) := by
  show ∀ q ∈ [(4, 122)], _
  exact List.forall_mem_cons.mpr ⟨⟨⟨"ConeForms", "lift", "()Z"⟩, prog_1_method_36_code, 3, (some FieldType.boolean), by rfl, sd_callV (C := "ConeForms") (Or.inr ⟨_, _, rfl⟩) g_983 g_984 g_985 g_1 g_986 y_175 (by decide)⟩, fun _ h => absurd h List.not_mem_nil⟩
theorem y_176 : "ConeFormsModel" ≠ "java/lang/invoke/MethodHandle" ∧ "ConeFormsModel" ≠ "java/lang/invoke/VarHandle" ∧ (parseMethodDescriptor "()Z").map (fun d => d.parameters.length) = some 0 := by decide +kernel
theorem c_199 : ∀ q ∈ vt_l.getD 153 [], ∃ y b mL r0, mi_l[q.2]? = some (y, b, mL, r0) ∧ sd_Callable "ConeFormsLaw" (.invokevirtual 89) 3 1 y b mL r0 (some q.1) := by
  show ∀ q ∈ [(11, 195)], _
  exact List.forall_mem_cons.mpr ⟨⟨⟨"ConeFormsModel", "lift", "()Z"⟩, prog_12_method_59_code, 2, (some FieldType.boolean), by rfl, sd_callV (C := "ConeFormsModel") (Or.inr ⟨_, _, rfl⟩) g_1420 g_1421 g_1422 g_11 g_1423 y_176 (by decide)⟩, fun _ h => absurd h List.not_mem_nil⟩
theorem y_177 : "ConeForms" ≠ "java/lang/invoke/MethodHandle" ∧ "ConeForms" ≠ "java/lang/invoke/VarHandle" ∧ (parseMethodDescriptor "()Z").map (fun d => d.parameters.length) = some 0 := by decide +kernel
theorem c_200 : ∀ q ∈ vt_l.getD 154 [], ∃ y b mL r0, mi_l[q.2]? = some (y, b, mL, r0) ∧ sd_Callable "ConeFormsLaw" (.invokevirtual 90) 3 1 y b mL r0 (some q.1) := by
  show ∀ q ∈ [(4, 128)], _
  exact List.forall_mem_cons.mpr ⟨⟨⟨"ConeForms", "fits", "()Z"⟩, prog_1_method_38_code, 10, (some FieldType.boolean), by rfl, sd_callV (C := "ConeForms") (Or.inr ⟨_, _, rfl⟩) g_1033 g_1034 g_1035 g_1 g_1036 y_177 (by decide)⟩, fun _ h => absurd h List.not_mem_nil⟩
theorem y_178 : "ConeFormsModel" ≠ "java/lang/invoke/MethodHandle" ∧ "ConeFormsModel" ≠ "java/lang/invoke/VarHandle" ∧ (parseMethodDescriptor "()Z").map (fun d => d.parameters.length) = some 0 := by decide +kernel
theorem c_201 : ∀ q ∈ vt_l.getD 155 [], ∃ y b mL r0, mi_l[q.2]? = some (y, b, mL, r0) ∧ sd_Callable "ConeFormsLaw" (.invokevirtual 93) 3 1 y b mL r0 (some q.1) := by
  show ∀ q ∈ [(11, 196)], _
  exact List.forall_mem_cons.mpr ⟨⟨⟨"ConeFormsModel", "fits", "()Z"⟩, prog_12_method_61_code, 11, (some FieldType.boolean), by rfl, sd_callV (C := "ConeFormsModel") (Or.inr ⟨_, _, rfl⟩) g_1424 g_1425 g_1426 g_11 g_1427 y_178 (by decide)⟩, fun _ h => absurd h List.not_mem_nil⟩
theorem y_179 : "ConeForms" ≠ "java/lang/invoke/MethodHandle" ∧ "ConeForms" ≠ "java/lang/invoke/VarHandle" ∧ (parseMethodDescriptor "()J").map (fun d => d.parameters.length) = some 0 := by decide +kernel
theorem c_202 : ∀ q ∈ vt_l.getD 156 [], ∃ y b mL r0, mi_l[q.2]? = some (y, b, mL, r0) ∧ sd_Callable "ConeFormsLaw" (.invokevirtual 94) 3 1 y b mL r0 (some q.1) := by
  show ∀ q ∈ [(4, 134)], _
  exact List.forall_mem_cons.mpr ⟨⟨⟨"ConeForms", "cost", "()J"⟩, prog_1_method_39_code, 1, (some FieldType.long), by rfl, sd_callV (C := "ConeForms") (Or.inr ⟨_, _, rfl⟩) g_1062 g_1063 g_1064 g_1 g_1065 y_179 (by decide)⟩, fun _ h => absurd h List.not_mem_nil⟩
theorem y_180 : "ConeFormsModel" ≠ "java/lang/invoke/MethodHandle" ∧ "ConeFormsModel" ≠ "java/lang/invoke/VarHandle" ∧ (parseMethodDescriptor "()J").map (fun d => d.parameters.length) = some 0 := by decide +kernel
theorem c_203 : ∀ q ∈ vt_l.getD 157 [], ∃ y b mL r0, mi_l[q.2]? = some (y, b, mL, r0) ∧ sd_Callable "ConeFormsLaw" (.invokevirtual 98) 3 1 y b mL r0 (some q.1) := by
  show ∀ q ∈ [(11, 198)], _
  exact List.forall_mem_cons.mpr ⟨⟨⟨"ConeFormsModel", "cost", "()J"⟩, prog_12_method_62_code, 1, (some FieldType.long), by rfl, sd_callV (C := "ConeFormsModel") (Or.inr ⟨_, _, rfl⟩) g_1431 g_1432 g_1433 g_11 g_1434 y_180 (by decide)⟩, fun _ h => absurd h List.not_mem_nil⟩
theorem y_181 : "ConeForms" ≠ "java/lang/invoke/MethodHandle" ∧ "ConeForms" ≠ "java/lang/invoke/VarHandle" ∧ (parseMethodDescriptor "()Z").map (fun d => d.parameters.length) = some 0 := by decide +kernel
theorem c_204 : ∀ q ∈ vt_l.getD 158 [], ∃ y b mL r0, mi_l[q.2]? = some (y, b, mL, r0) ∧ sd_Callable "ConeFormsLaw" (.invokevirtual 99) 3 1 y b mL r0 (some q.1) := by
  show ∀ q ∈ [(4, 135)], _
  exact List.forall_mem_cons.mpr ⟨⟨⟨"ConeForms", "feasible", "()Z"⟩, prog_1_method_40_code, 3, (some FieldType.boolean), by rfl, sd_callV (C := "ConeForms") (Or.inr ⟨_, _, rfl⟩) g_1066 g_1067 g_1068 g_1 g_1069 y_181 (by decide)⟩, fun _ h => absurd h List.not_mem_nil⟩
theorem y_182 : "ConeFormsModel" ≠ "java/lang/invoke/MethodHandle" ∧ "ConeFormsModel" ≠ "java/lang/invoke/VarHandle" ∧ (parseMethodDescriptor "()Z").map (fun d => d.parameters.length) = some 0 := by decide +kernel
theorem c_205 : ∀ q ∈ vt_l.getD 159 [], ∃ y b mL r0, mi_l[q.2]? = some (y, b, mL, r0) ∧ sd_Callable "ConeFormsLaw" (.invokevirtual 102) 3 1 y b mL r0 (some q.1) := by
  show ∀ q ∈ [(11, 175)], _
  exact List.forall_mem_cons.mpr ⟨⟨⟨"ConeFormsModel", "feasible", "()Z"⟩, prog_12_method_39_code, 5, (some FieldType.boolean), by rfl, sd_callV (C := "ConeFormsModel") (Or.inr ⟨_, _, rfl⟩) g_1339 g_1340 g_1341 g_11 g_1342 y_182 (by decide)⟩, fun _ h => absurd h List.not_mem_nil⟩
