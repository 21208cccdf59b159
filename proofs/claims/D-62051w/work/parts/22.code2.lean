/-! LINKING: the code of methods. Printed by gen_link.py. -/
def pl_42 : List Nat := [0]
set_option maxRecDepth 100000 in
theorem al_42_0 : sd_Al mi_l "java/util/ArrayList" "get" prog_26_method_20_code 2 (some (FieldType.object "java/lang/Object")) (sd_bp pl_42) B_42_0 0 := ⟨1, ok_iload_n (q := 1) (by decide +kernel) rfl, ⟨2, ok_aload_n (q := 0) (by decide +kernel) rfl, ⟨5, ok_getf (by decide +kernel) fo_35, ⟨8, ok_calls (by decide +kernel) (by rfl) c_46, ⟨9, ok_pop (by decide +kernel), ⟨10, ok_aload_n (q := 0) (by decide +kernel) rfl, ⟨11, ok_iload_n (q := 1) (by decide +kernel) rfl, ⟨14, ok_callv (by decide) (by decide +kernel) c_47, ⟨15, ok_aret (by decide +kernel) (Or.inl ⟨_, rfl⟩), trivial⟩⟩⟩⟩⟩⟩⟩⟩⟩
set_option maxRecDepth 100000 in
theorem gd_42 : sd_Good mi_l ⟨"java/util/ArrayList", "get", "(I)Ljava/lang/Object;"⟩ prog_26_method_20_code 2 (some (FieldType.object "java/lang/Object")) cd_42 :=
  ⟨by decide +kernel, sd_bp pl_42, rfl, fun k => sd_Als.at (Bs := [B_42_0]) (ps := pl_42) ⟨_, _, rfl, al_42_0, trivial⟩ k.toNat⟩
def pl_43 : List Nat := [0]
set_option maxRecDepth 100000 in
theorem al_43_0 : sd_Al mi_l "java/util/Objects" "checkIndex" prog_32_method_17_code 2 (some FieldType.int) (sd_bp pl_43) B_43_0 0 := ⟨1, ok_iload_n (q := 0) (by decide +kernel) rfl, ⟨2, ok_iload_n (q := 1) (by decide +kernel) rfl, ⟨3, ok_null (by decide +kernel), ⟨6, ok_calls (by decide +kernel) (by rfl) c_48, ⟨7, ok_ireti (by decide +kernel) rfl, trivial⟩⟩⟩⟩⟩
set_option maxRecDepth 100000 in
theorem gd_43 : sd_Good mi_l ⟨"java/util/Objects", "checkIndex", "(II)I"⟩ prog_32_method_17_code 2 (some FieldType.int) cd_43 :=
  ⟨by decide +kernel, sd_bp pl_43, rfl, fun k => sd_Als.at (Bs := [B_43_0]) (ps := pl_43) ⟨_, _, rfl, al_43_0, trivial⟩ k.toNat⟩
def pl_44 : List Nat := [0]
set_option maxRecDepth 100000 in
theorem al_44_0 : sd_Al mi_l "java/util/ArrayList" "elementData" prog_26_method_18_code 2 (some (FieldType.object "java/lang/Object")) (sd_bp pl_44) B_44_0 0 := ⟨1, ok_aload_n (q := 0) (by decide +kernel) rfl, ⟨4, ok_getf (by decide +kernel) fo_67, ⟨5, ok_iload_n (q := 1) (by decide +kernel) rfl, ⟨6, ok_aaload (by decide +kernel), ⟨7, ok_aret (by decide +kernel) (Or.inl ⟨_, rfl⟩), trivial⟩⟩⟩⟩⟩
set_option maxRecDepth 100000 in
theorem gd_44 : sd_Good mi_l ⟨"java/util/ArrayList", "elementData", "(I)Ljava/lang/Object;"⟩ prog_26_method_18_code 2 (some (FieldType.object "java/lang/Object")) cd_44 :=
  ⟨by decide +kernel, sd_bp pl_44, rfl, fun k => sd_Als.at (Bs := [B_44_0]) (ps := pl_44) ⟨_, _, rfl, al_44_0, trivial⟩ k.toNat⟩
def pl_45 : List Nat := [0, 3, 79, 85]
set_option maxRecDepth 100000 in
theorem al_45_0 : sd_Al mi_l "ConeForms" "equal" prog_1_method_8_code 8 (some (FieldType.object "ConeForms$Node")) (sd_bp pl_45) B_45_0 0 := ⟨1, ok_iconst (by decide +kernel), ⟨3, ok_istore (by decide +kernel), ⟨3, ok_fall rfl, trivial⟩⟩⟩
set_option maxRecDepth 100000 in
theorem al_45_1 : sd_Al mi_l "ConeForms" "equal" prog_1_method_8_code 8 (some (FieldType.object "ConeForms$Node")) (sd_bp pl_45) B_45_1 3 := ⟨5, ok_iload (by decide +kernel), ⟨6, ok_aload_n (q := 0) (by decide +kernel) rfl, ⟨9, ok_getf (by decide +kernel) fo_30, ⟨12, ok_callv (by decide) (by decide +kernel) c_22, ⟨15, ok_icmp (off := 73) (by decide +kernel) (by decide), ⟨16, ok_aload_n (q := 0) (by decide +kernel) rfl, ⟨19, ok_getf (by decide +kernel) fo_30, ⟨21, ok_iload (by decide +kernel), ⟨24, ok_callv (by decide) (by decide +kernel) c_41, ⟨27, ok_cast0 (by decide +kernel) g_139, ⟨29, ok_astore (by decide +kernel), ⟨31, ok_aload (by decide +kernel), ⟨34, ok_getf (by decide +kernel) fo_68, ⟨35, ok_aload_n (q := 1) (by decide +kernel) rfl, ⟨38, ok_acmp (off := 44) (by decide +kernel) (by decide), ⟨40, ok_aload (by decide +kernel), ⟨43, ok_getf (by decide +kernel) fo_69, ⟨44, ok_iload_n (q := 2) (by decide +kernel) rfl, ⟨47, ok_icmp (off := 35) (by decide +kernel) (by decide), ⟨49, ok_aload (by decide +kernel), ⟨52, ok_getf (by decide +kernel) fo_70, ⟨53, ok_aload_n (q := 3) (by decide +kernel) rfl, ⟨56, ok_acmp (off := 26) (by decide +kernel) (by decide), ⟨58, ok_aload (by decide +kernel), ⟨61, ok_getf (by decide +kernel) fo_71, ⟨63, ok_aload (by decide +kernel), ⟨66, ok_acmp (off := 16) (by decide +kernel) (by decide), ⟨68, ok_aload (by decide +kernel), ⟨71, ok_getf (by decide +kernel) fo_72, ⟨73, ok_aload (by decide +kernel), ⟨76, ok_acmp (off := 6) (by decide +kernel) (by decide), ⟨78, ok_aload (by decide +kernel), ⟨79, ok_aret (by decide +kernel) (Or.inl ⟨_, rfl⟩), trivial⟩⟩⟩⟩⟩⟩⟩⟩⟩⟩⟩⟩⟩⟩⟩⟩⟩⟩⟩⟩⟩⟩⟩⟩⟩⟩⟩⟩⟩⟩⟩⟩⟩
set_option maxRecDepth 100000 in
theorem al_45_2 : sd_Al mi_l "ConeForms" "equal" prog_1_method_8_code 8 (some (FieldType.object "ConeForms$Node")) (sd_bp pl_45) B_45_2 79 := ⟨82, ok_iinc (by decide +kernel), ⟨85, ok_goto (off := (-79)) (by decide +kernel) (by decide), trivial⟩⟩
set_option maxRecDepth 100000 in
theorem al_45_3 : sd_Al mi_l "ConeForms" "equal" prog_1_method_8_code 8 (some (FieldType.object "ConeForms$Node")) (sd_bp pl_45) B_45_3 85 := ⟨86, ok_null (by decide +kernel), ⟨87, ok_aret (by decide +kernel) (Or.inl ⟨_, rfl⟩), trivial⟩⟩
set_option maxRecDepth 100000 in
theorem gd_45 : sd_Good mi_l ⟨"ConeForms", "equal", "(LConeForms$Kind;ILConeForms$Node;LConeForms$Node;LConeForms$Node;)LConeForms$Node;"⟩ prog_1_method_8_code 8 (some (FieldType.object "ConeForms$Node")) cd_45 :=
  ⟨by decide +kernel, sd_bp pl_45, rfl, fun k => sd_Als.at (Bs := [B_45_0, B_45_1, B_45_2, B_45_3]) (ps := pl_45) ⟨_, _, rfl, al_45_0, ⟨_, _, rfl, al_45_1, ⟨_, _, rfl, al_45_2, ⟨_, _, rfl, al_45_3, trivial⟩⟩⟩⟩ k.toNat⟩
def pl_46 : List Nat := [0, 17, 37, 56, 66]
set_option maxRecDepth 100000 in
theorem al_46_0 : sd_Al mi_l "ConeForms" "fresh" prog_1_method_9_code 5 (some (FieldType.object "ConeForms$Node")) (sd_bp pl_46) B_46_0 0 := ⟨1, ok_aload_n (q := 0) (by decide +kernel) rfl, ⟨4, ok_getf (by decide +kernel) fo_65, ⟨7, ok_if (off := 13) (by decide +kernel) (by decide), ⟨10, ok_newo (by decide +kernel) t_5 rfl i_5 t_5_ok (by decide) rfl g_448 g_449 g_22, ⟨11, ok_dup (by decide +kernel), ⟨12, ok_aload_n (q := 0) (by decide +kernel) rfl, ⟨13, ok_iload_n (q := 1) (by decide +kernel) rfl, ⟨16, ok_callv (by decide) (by decide +kernel) c_49, ⟨17, ok_aret (by decide +kernel) (Or.inl ⟨_, rfl⟩), trivial⟩⟩⟩⟩⟩⟩⟩⟩⟩
set_option maxRecDepth 100000 in
theorem al_46_1 : sd_Al mi_l "ConeForms" "fresh" prog_1_method_9_code 5 (some (FieldType.object "ConeForms$Node")) (sd_bp pl_46) B_46_1 17 := ⟨18, ok_aload_n (q := 0) (by decide +kernel) rfl, ⟨21, ok_callv (by decide) (by decide +kernel) c_50, ⟨24, ok_if (off := 16) (by decide +kernel) (by decide), ⟨27, ok_newo (by decide +kernel) t_6 rfl i_6 t_6_ok (by decide) rfl g_558 g_559 g_23, ⟨28, ok_dup (by decide +kernel), ⟨29, ok_aload_n (q := 0) (by decide +kernel) rfl, ⟨30, ok_aload_n (q := 2) (by decide +kernel) rfl, ⟨31, ok_aload_n (q := 3) (by decide +kernel) rfl, ⟨33, ok_aload (by decide +kernel), ⟨36, ok_callv (by decide) (by decide +kernel) c_51, ⟨37, ok_aret (by decide +kernel) (Or.inl ⟨_, rfl⟩), trivial⟩⟩⟩⟩⟩⟩⟩⟩⟩⟩⟩
set_option maxRecDepth 100000 in
theorem al_46_2 : sd_Al mi_l "ConeForms" "fresh" prog_1_method_9_code 5 (some (FieldType.object "ConeForms$Node")) (sd_bp pl_46) B_46_2 37 := ⟨38, ok_aload_n (q := 0) (by decide +kernel) rfl, ⟨41, ok_getsK (by decide +kernel) (by decide) rfl g_583, ⟨44, ok_acmp (off := 15) (by decide +kernel) (by decide), ⟨47, ok_newo (by decide +kernel) t_7 rfl i_7 t_7_ok (by decide) rfl g_584 g_585 g_24, ⟨48, ok_dup (by decide +kernel), ⟨49, ok_aload_n (q := 2) (by decide +kernel) rfl, ⟨50, ok_aload_n (q := 3) (by decide +kernel) rfl, ⟨53, ok_callv (by decide) (by decide +kernel) c_52, ⟨56, ok_goto (off := 13) (by decide +kernel) (by decide), trivial⟩⟩⟩⟩⟩⟩⟩⟩⟩
set_option maxRecDepth 100000 in
theorem al_46_3 : sd_Al mi_l "ConeForms" "fresh" prog_1_method_9_code 5 (some (FieldType.object "ConeForms$Node")) (sd_bp pl_46) B_46_3 56 := ⟨59, ok_newo (by decide +kernel) t_8 rfl i_8 t_8_ok (by decide) rfl g_606 g_607 g_25, ⟨60, ok_dup (by decide +kernel), ⟨61, ok_aload_n (q := 0) (by decide +kernel) rfl, ⟨62, ok_aload_n (q := 2) (by decide +kernel) rfl, ⟨63, ok_aload_n (q := 3) (by decide +kernel) rfl, ⟨66, ok_callv (by decide) (by decide +kernel) c_53, ⟨66, ok_fall rfl, trivial⟩⟩⟩⟩⟩⟩⟩
set_option maxRecDepth 100000 in
theorem al_46_4 : sd_Al mi_l "ConeForms" "fresh" prog_1_method_9_code 5 (some (FieldType.object "ConeForms$Node")) (sd_bp pl_46) B_46_4 66 := ⟨67, ok_aret (by decide +kernel) (Or.inl ⟨_, rfl⟩), trivial⟩
set_option maxRecDepth 100000 in
theorem gd_46 : sd_Good mi_l ⟨"ConeForms", "fresh", "(LConeForms$Kind;ILConeForms$Node;LConeForms$Node;LConeForms$Node;)LConeForms$Node;"⟩ prog_1_method_9_code 5 (some (FieldType.object "ConeForms$Node")) cd_46 :=
  ⟨by decide +kernel, sd_bp pl_46, rfl, fun k => sd_Als.at (Bs := [B_46_0, B_46_1, B_46_2, B_46_3, B_46_4]) (ps := pl_46) ⟨_, _, rfl, al_46_0, ⟨_, _, rfl, al_46_1, ⟨_, _, rfl, al_46_2, ⟨_, _, rfl, al_46_3, ⟨_, _, rfl, al_46_4, trivial⟩⟩⟩⟩⟩ k.toNat⟩
def pl_47 : List Nat := [0, 21]
set_option maxRecDepth 100000 in
theorem al_47_0 : sd_Al mi_l "ConeForms$Leaf" "<init>" prog_4_method_1_code 3 none (sd_bp pl_47) B_47_0 0 := ⟨1, ok_aload_n (q := 0) (by decide +kernel) rfl, ⟨2, ok_aload_n (q := 1) (by decide +kernel) rfl, ⟨3, ok_iload_n (q := 2) (by decide +kernel) rfl, ⟨4, ok_null (by decide +kernel), ⟨5, ok_null (by decide +kernel), ⟨6, ok_null (by decide +kernel), ⟨9, ok_callv (by decide) (by decide +kernel) c_54, ⟨10, ok_aload_n (q := 1) (by decide +kernel) rfl, ⟨13, ok_getsK (by decide +kernel) (by decide) rfl g_457, ⟨16, ok_acmp (off := 8) (by decide +kernel) (by decide), ⟨17, ok_aload_n (q := 0) (by decide +kernel) rfl, ⟨18, ok_iload_n (q := 2) (by decide +kernel) rfl, ⟨21, ok_putf (by decide +kernel) fp_73, ⟨21, ok_fall rfl, trivial⟩⟩⟩⟩⟩⟩⟩⟩⟩⟩⟩⟩⟩⟩
set_option maxRecDepth 100000 in
theorem al_47_1 : sd_Al mi_l "ConeForms$Leaf" "<init>" prog_4_method_1_code 3 none (sd_bp pl_47) B_47_1 21 := ⟨22, ok_vret (by decide +kernel) rfl, trivial⟩
set_option maxRecDepth 100000 in
theorem gd_47 : sd_Good mi_l ⟨"ConeForms$Leaf", "<init>", "(LConeForms$Kind;I)V"⟩ prog_4_method_1_code 3 none cd_47 :=
  ⟨by decide +kernel, sd_bp pl_47, rfl, fun k => sd_Als.at (Bs := [B_47_0, B_47_1]) (ps := pl_47) ⟨_, _, rfl, al_47_0, ⟨_, _, rfl, al_47_1, trivial⟩⟩ k.toNat⟩
def pl_48 : List Nat := [0]
set_option maxRecDepth 100000 in
theorem al_48_0 : sd_Al mi_l "ConeForms$Node" "<init>" prog_6_method_1_code 6 none (sd_bp pl_48) B_48_0 0 := ⟨1, ok_aload_n (q := 0) (by decide +kernel) rfl, ⟨4, ok_oinit (by decide +kernel) g_456 g_34 g_35, ⟨5, ok_aload_n (q := 0) (by decide +kernel) rfl, ⟨6, ok_iconst (by decide +kernel), ⟨9, ok_putf (by decide +kernel) fp_74, ⟨10, ok_aload_n (q := 0) (by decide +kernel) rfl, ⟨11, ok_aload_n (q := 1) (by decide +kernel) rfl, ⟨14, ok_putf (by decide +kernel) fp_75, ⟨15, ok_aload_n (q := 0) (by decide +kernel) rfl, ⟨16, ok_iload_n (q := 2) (by decide +kernel) rfl, ⟨19, ok_putf (by decide +kernel) fp_76, ⟨20, ok_aload_n (q := 0) (by decide +kernel) rfl, ⟨21, ok_aload_n (q := 3) (by decide +kernel) rfl, ⟨24, ok_putf (by decide +kernel) fp_77, ⟨25, ok_aload_n (q := 0) (by decide +kernel) rfl, ⟨27, ok_aload (by decide +kernel), ⟨30, ok_putf (by decide +kernel) fp_78, ⟨31, ok_aload_n (q := 0) (by decide +kernel) rfl, ⟨33, ok_aload (by decide +kernel), ⟨36, ok_putf (by decide +kernel) fp_79, ⟨37, ok_vret (by decide +kernel) rfl, trivial⟩⟩⟩⟩⟩⟩⟩⟩⟩⟩⟩⟩⟩⟩⟩⟩⟩⟩⟩⟩⟩
set_option maxRecDepth 100000 in
theorem gd_48 : sd_Good mi_l ⟨"ConeForms$Node", "<init>", "(LConeForms$Kind;ILConeForms$Node;LConeForms$Node;LConeForms$Node;)V"⟩ prog_6_method_1_code 6 none cd_48 :=
  ⟨by decide +kernel, sd_bp pl_48, rfl, fun k => sd_Als.at (Bs := [B_48_0]) (ps := pl_48) ⟨_, _, rfl, al_48_0, trivial⟩ k.toNat⟩
def pl_49 : List Nat := [0]
set_option maxRecDepth 100000 in
theorem al_49_0 : sd_Al mi_l "ConeForms$Bend" "<init>" prog_2_method_1_code 5 none (sd_bp pl_49) B_49_0 0 := ⟨1, ok_aload_n (q := 0) (by decide +kernel) rfl, ⟨2, ok_aload_n (q := 1) (by decide +kernel) rfl, ⟨3, ok_iconst (by decide +kernel), ⟨4, ok_aload_n (q := 2) (by decide +kernel) rfl, ⟨5, ok_aload_n (q := 3) (by decide +kernel) rfl, ⟨7, ok_aload (by decide +kernel), ⟨10, ok_callv (by decide) (by decide +kernel) c_55, ⟨11, ok_vret (by decide +kernel) rfl, trivial⟩⟩⟩⟩⟩⟩⟩⟩
set_option maxRecDepth 100000 in
theorem gd_49 : sd_Good mi_l ⟨"ConeForms$Bend", "<init>", "(LConeForms$Kind;LConeForms$Node;LConeForms$Node;LConeForms$Node;)V"⟩ prog_2_method_1_code 5 none cd_49 :=
  ⟨by decide +kernel, sd_bp pl_49, rfl, fun k => sd_Als.at (Bs := [B_49_0]) (ps := pl_49) ⟨_, _, rfl, al_49_0, trivial⟩ k.toNat⟩
def pl_50 : List Nat := [0]
set_option maxRecDepth 100000 in
theorem al_50_0 : sd_Al mi_l "ConeForms$Product" "<init>" prog_7_method_1_code 3 none (sd_bp pl_50) B_50_0 0 := ⟨1, ok_aload_n (q := 0) (by decide +kernel) rfl, ⟨4, ok_getsK (by decide +kernel) (by decide) rfl g_589, ⟨5, ok_iconst (by decide +kernel), ⟨6, ok_aload_n (q := 1) (by decide +kernel) rfl, ⟨7, ok_aload_n (q := 2) (by decide +kernel) rfl, ⟨8, ok_null (by decide +kernel), ⟨11, ok_callv (by decide) (by decide +kernel) c_56, ⟨12, ok_vret (by decide +kernel) rfl, trivial⟩⟩⟩⟩⟩⟩⟩⟩
set_option maxRecDepth 100000 in
theorem gd_50 : sd_Good mi_l ⟨"ConeForms$Product", "<init>", "(LConeForms$Node;LConeForms$Node;)V"⟩ prog_7_method_1_code 3 none cd_50 :=
  ⟨by decide +kernel, sd_bp pl_50, rfl, fun k => sd_Als.at (Bs := [B_50_0]) (ps := pl_50) ⟨_, _, rfl, al_50_0, trivial⟩ k.toNat⟩
def pl_51 : List Nat := [0]
set_option maxRecDepth 100000 in
theorem al_51_0 : sd_Al mi_l "ConeForms$Linear" "<init>" prog_5_method_1_code 4 none (sd_bp pl_51) B_51_0 0 := ⟨1, ok_aload_n (q := 0) (by decide +kernel) rfl, ⟨2, ok_aload_n (q := 1) (by decide +kernel) rfl, ⟨3, ok_iconst (by decide +kernel), ⟨4, ok_aload_n (q := 2) (by decide +kernel) rfl, ⟨5, ok_aload_n (q := 3) (by decide +kernel) rfl, ⟨6, ok_null (by decide +kernel), ⟨9, ok_callv (by decide) (by decide +kernel) c_57, ⟨10, ok_vret (by decide +kernel) rfl, trivial⟩⟩⟩⟩⟩⟩⟩⟩
set_option maxRecDepth 100000 in
theorem gd_51 : sd_Good mi_l ⟨"ConeForms$Linear", "<init>", "(LConeForms$Kind;LConeForms$Node;LConeForms$Node;)V"⟩ prog_5_method_1_code 4 none cd_51 :=
  ⟨by decide +kernel, sd_bp pl_51, rfl, fun k => sd_Als.at (Bs := [B_51_0]) (ps := pl_51) ⟨_, _, rfl, al_51_0, trivial⟩ k.toNat⟩
def pl_52 : List Nat := [0, 32, 41, 59, 86]
set_option maxRecDepth 100000 in
theorem al_52_0 : sd_Al mi_l "ConeForms$Bend" "span" prog_2_method_2_code 1 (some FieldType.long) (sd_bp pl_52) B_52_0 0 := ⟨1, ok_aload_n (q := 0) (by decide +kernel) rfl, ⟨4, ok_getf (by decide +kernel) fo_80, ⟨7, ok_callv (by decide) (by decide +kernel) c_58, ⟨32, ok_tsw (d' := 79) (offs := #[25, 34, 52]) (len := 25) (by decide +kernel) (by decide) (by decide) (by decide) (by decide) (by decide), trivial⟩⟩⟩⟩
set_option maxRecDepth 100000 in
theorem al_52_1 : sd_Al mi_l "ConeForms$Bend" "span" prog_2_method_2_code 1 (some FieldType.long) (sd_bp pl_52) B_52_1 32 := ⟨33, ok_aload_n (q := 0) (by decide +kernel) rfl, ⟨36, ok_getf (by decide +kernel) fo_81, ⟨39, ok_getf (by decide +kernel) fo_82, ⟨40, ok_i2l (by decide +kernel), ⟨41, ok_lret (by decide +kernel) rfl, trivial⟩⟩⟩⟩⟩
set_option maxRecDepth 100000 in
theorem al_52_2 : sd_Al mi_l "ConeForms$Bend" "span" prog_2_method_2_code 1 (some FieldType.long) (sd_bp pl_52) B_52_2 41 := ⟨42, ok_aload_n (q := 0) (by decide +kernel) rfl, ⟨45, ok_getf (by decide +kernel) fo_81, ⟨48, ok_getf (by decide +kernel) fo_82, ⟨49, ok_i2l (by decide +kernel), ⟨50, ok_aload_n (q := 0) (by decide +kernel) rfl, ⟨53, ok_getf (by decide +kernel) fo_81, ⟨56, ok_getf (by decide +kernel) fo_82, ⟨57, ok_i2l (by decide +kernel), ⟨58, ok_lmul (by decide +kernel), ⟨59, ok_lret (by decide +kernel) rfl, trivial⟩⟩⟩⟩⟩⟩⟩⟩⟩⟩
set_option maxRecDepth 100000 in
theorem al_52_3 : sd_Al mi_l "ConeForms$Bend" "span" prog_2_method_2_code 1 (some FieldType.long) (sd_bp pl_52) B_52_3 59 := ⟨60, ok_aload_n (q := 0) (by decide +kernel) rfl, ⟨63, ok_getf (by decide +kernel) fo_81, ⟨66, ok_getf (by decide +kernel) fo_82, ⟨67, ok_i2l (by decide +kernel), ⟨68, ok_aload_n (q := 0) (by decide +kernel) rfl, ⟨71, ok_getf (by decide +kernel) fo_83, ⟨74, ok_getf (by decide +kernel) fo_82, ⟨75, ok_i2l (by decide +kernel), ⟨76, ok_ladd (by decide +kernel), ⟨77, ok_aload_n (q := 0) (by decide +kernel) rfl, ⟨80, ok_getf (by decide +kernel) fo_84, ⟨83, ok_getf (by decide +kernel) fo_82, ⟨84, ok_i2l (by decide +kernel), ⟨85, ok_ladd (by decide +kernel), ⟨86, ok_lret (by decide +kernel) rfl, trivial⟩⟩⟩⟩⟩⟩⟩⟩⟩⟩⟩⟩⟩⟩⟩
set_option maxRecDepth 100000 in
theorem al_52_4 : sd_Al mi_l "ConeForms$Bend" "span" prog_2_method_2_code 1 (some FieldType.long) (sd_bp pl_52) B_52_4 86 := ⟨87, ok_aload_n (q := 0) (by decide +kernel) rfl, ⟨90, ok_getf (by decide +kernel) fo_81, ⟨93, ok_getf (by decide +kernel) fo_82, ⟨94, ok_aload_n (q := 0) (by decide +kernel) rfl, ⟨97, ok_getf (by decide +kernel) fo_83, ⟨100, ok_getf (by decide +kernel) fo_82, ⟨103, ok_calls (by decide +kernel) (by rfl) c_59, ⟨104, ok_i2l (by decide +kernel), ⟨105, ok_lret (by decide +kernel) rfl, trivial⟩⟩⟩⟩⟩⟩⟩⟩⟩
set_option maxRecDepth 100000 in
theorem gd_52 : sd_Good mi_l ⟨"ConeForms$Bend", "span", "()J"⟩ prog_2_method_2_code 1 (some FieldType.long) cd_52 :=
  ⟨by decide +kernel, sd_bp pl_52, rfl, fun k => sd_Als.at (Bs := [B_52_0, B_52_1, B_52_2, B_52_3, B_52_4]) (ps := pl_52) ⟨_, _, rfl, al_52_0, ⟨_, _, rfl, al_52_1, ⟨_, _, rfl, al_52_2, ⟨_, _, rfl, al_52_3, ⟨_, _, rfl, al_52_4, trivial⟩⟩⟩⟩⟩ k.toNat⟩
def pl_53 : List Nat := [0]
set_option maxRecDepth 100000 in
theorem al_53_0 : sd_Al mi_l "java/lang/Enum" "ordinal" prog_16_method_2_code 1 (some FieldType.int) (sd_bp pl_53) B_53_0 0 := ⟨1, ok_aload_n (q := 0) (by decide +kernel) rfl, ⟨4, ok_getf (by decide +kernel) fo_85, ⟨5, ok_ireti (by decide +kernel) rfl, trivial⟩⟩⟩
set_option maxRecDepth 100000 in
theorem gd_53 : sd_Good mi_l ⟨"java/lang/Enum", "ordinal", "()I"⟩ prog_16_method_2_code 1 (some FieldType.int) cd_53 :=
  ⟨by decide +kernel, sd_bp pl_53, rfl, fun k => sd_Als.at (Bs := [B_53_0]) (ps := pl_53) ⟨_, _, rfl, al_53_0, trivial⟩ k.toNat⟩
def pl_54 : List Nat := [0, 22, 38, 41]
set_option maxRecDepth 100000 in
theorem al_54_0 : sd_Al mi_l "ConeForms$Leaf" "span" prog_4_method_2_code 1 (some FieldType.long) (sd_bp pl_54) B_54_0 0 := ⟨1, ok_aload_n (q := 0) (by decide +kernel) rfl, ⟨4, ok_getf (by decide +kernel) fo_86, ⟨7, ok_getsK (by decide +kernel) (by decide) rfl g_457, ⟨10, ok_acmp (off := 15) (by decide +kernel) (by decide), ⟨11, ok_iconst (by decide +kernel), ⟨12, ok_aload_n (q := 0) (by decide +kernel) rfl, ⟨15, ok_getf (by decide +kernel) fo_87, ⟨18, ok_calls (by decide +kernel) (by rfl) c_60, ⟨19, ok_i2l (by decide +kernel), ⟨22, ok_goto (off := 22) (by decide +kernel) (by decide), trivial⟩⟩⟩⟩⟩⟩⟩⟩⟩⟩
set_option maxRecDepth 100000 in
theorem al_54_1 : sd_Al mi_l "ConeForms$Leaf" "span" prog_4_method_2_code 1 (some FieldType.long) (sd_bp pl_54) B_54_1 22 := ⟨23, ok_aload_n (q := 0) (by decide +kernel) rfl, ⟨26, ok_getf (by decide +kernel) fo_86, ⟨29, ok_getsK (by decide +kernel) (by decide) rfl g_644, ⟨32, ok_acmp (off := 9) (by decide +kernel) (by decide), ⟨35, ok_ldc2 (by decide +kernel) g_645 (by decide), ⟨38, ok_goto (off := 6) (by decide +kernel) (by decide), trivial⟩⟩⟩⟩⟩⟩
set_option maxRecDepth 100000 in
theorem al_54_2 : sd_Al mi_l "ConeForms$Leaf" "span" prog_4_method_2_code 1 (some FieldType.long) (sd_bp pl_54) B_54_2 38 := ⟨41, ok_ldc2 (by decide +kernel) g_646 (by decide), ⟨41, ok_fall rfl, trivial⟩⟩
set_option maxRecDepth 100000 in
theorem al_54_3 : sd_Al mi_l "ConeForms$Leaf" "span" prog_4_method_2_code 1 (some FieldType.long) (sd_bp pl_54) B_54_3 41 := ⟨42, ok_lret (by decide +kernel) rfl, trivial⟩
set_option maxRecDepth 100000 in
theorem gd_54 : sd_Good mi_l ⟨"ConeForms$Leaf", "span", "()J"⟩ prog_4_method_2_code 1 (some FieldType.long) cd_54 :=
  ⟨by decide +kernel, sd_bp pl_54, rfl, fun k => sd_Als.at (Bs := [B_54_0, B_54_1, B_54_2, B_54_3]) (ps := pl_54) ⟨_, _, rfl, al_54_0, ⟨_, _, rfl, al_54_1, ⟨_, _, rfl, al_54_2, ⟨_, _, rfl, al_54_3, trivial⟩⟩⟩⟩ k.toNat⟩
def pl_55 : List Nat := [0, 18, 35]
set_option maxRecDepth 100000 in
theorem al_55_0 : sd_Al mi_l "ConeForms$Linear" "span" prog_5_method_2_code 1 (some FieldType.long) (sd_bp pl_55) B_55_0 0 := ⟨1, ok_aload_n (q := 0) (by decide +kernel) rfl, ⟨4, ok_getf (by decide +kernel) fo_88, ⟨7, ok_ifnn (off := 14) (by decide +kernel) (by decide), ⟨8, ok_aload_n (q := 0) (by decide +kernel) rfl, ⟨11, ok_getf (by decide +kernel) fo_89, ⟨14, ok_getf (by decide +kernel) fo_90, ⟨15, ok_i2l (by decide +kernel), ⟨18, ok_goto (off := 20) (by decide +kernel) (by decide), trivial⟩⟩⟩⟩⟩⟩⟩⟩
set_option maxRecDepth 100000 in
theorem al_55_1 : sd_Al mi_l "ConeForms$Linear" "span" prog_5_method_2_code 1 (some FieldType.long) (sd_bp pl_55) B_55_1 18 := ⟨19, ok_aload_n (q := 0) (by decide +kernel) rfl, ⟨22, ok_getf (by decide +kernel) fo_89, ⟨25, ok_getf (by decide +kernel) fo_90, ⟨26, ok_i2l (by decide +kernel), ⟨27, ok_aload_n (q := 0) (by decide +kernel) rfl, ⟨30, ok_getf (by decide +kernel) fo_88, ⟨33, ok_getf (by decide +kernel) fo_90, ⟨34, ok_i2l (by decide +kernel), ⟨35, ok_ladd (by decide +kernel), ⟨35, ok_fall rfl, trivial⟩⟩⟩⟩⟩⟩⟩⟩⟩⟩
set_option maxRecDepth 100000 in
theorem al_55_2 : sd_Al mi_l "ConeForms$Linear" "span" prog_5_method_2_code 1 (some FieldType.long) (sd_bp pl_55) B_55_2 35 := ⟨36, ok_lret (by decide +kernel) rfl, trivial⟩
set_option maxRecDepth 100000 in
theorem gd_55 : sd_Good mi_l ⟨"ConeForms$Linear", "span", "()J"⟩ prog_5_method_2_code 1 (some FieldType.long) cd_55 :=
  ⟨by decide +kernel, sd_bp pl_55, rfl, fun k => sd_Als.at (Bs := [B_55_0, B_55_1, B_55_2]) (ps := pl_55) ⟨_, _, rfl, al_55_0, ⟨_, _, rfl, al_55_1, ⟨_, _, rfl, al_55_2, trivial⟩⟩⟩ k.toNat⟩
def pl_56 : List Nat := [0]
set_option maxRecDepth 100000 in
theorem al_56_0 : sd_Al mi_l "ConeForms$Product" "span" prog_7_method_2_code 1 (some FieldType.long) (sd_bp pl_56) B_56_0 0 := ⟨1, ok_aload_n (q := 0) (by decide +kernel) rfl, ⟨4, ok_getf (by decide +kernel) fo_91, ⟨7, ok_getf (by decide +kernel) fo_92, ⟨8, ok_i2l (by decide +kernel), ⟨9, ok_aload_n (q := 0) (by decide +kernel) rfl, ⟨12, ok_getf (by decide +kernel) fo_93, ⟨15, ok_getf (by decide +kernel) fo_92, ⟨16, ok_i2l (by decide +kernel), ⟨17, ok_lmul (by decide +kernel), ⟨18, ok_lret (by decide +kernel) rfl, trivial⟩⟩⟩⟩⟩⟩⟩⟩⟩⟩
set_option maxRecDepth 100000 in
theorem gd_56 : sd_Good mi_l ⟨"ConeForms$Product", "span", "()J"⟩ prog_7_method_2_code 1 (some FieldType.long) cd_56 :=
  ⟨by decide +kernel, sd_bp pl_56, rfl, fun k => sd_Als.at (Bs := [B_56_0]) (ps := pl_56) ⟨_, _, rfl, al_56_0, trivial⟩ k.toNat⟩
def pl_57 : List Nat := [0]
set_option maxRecDepth 100000 in
theorem al_57_0 : sd_Al mi_l "ConeForms" "settle" prog_1_method_10_code 3 none (sd_bp pl_57) B_57_0 0 := ⟨1, ok_aload_n (q := 1) (by decide +kernel) rfl, ⟨2, ok_aload_n (q := 0) (by decide +kernel) rfl, ⟨5, ok_getf (by decide +kernel) fo_30, ⟨8, ok_callv (by decide) (by decide +kernel) c_22, ⟨11, ok_putf (by decide +kernel) fp_94, ⟨12, ok_aload_n (q := 1) (by decide +kernel) rfl, ⟨13, ok_iload_n (q := 2) (by decide +kernel) rfl, ⟨16, ok_putf (by decide +kernel) fp_95, ⟨17, ok_aload_n (q := 1) (by decide +kernel) rfl, ⟨18, ok_aload_n (q := 1) (by decide +kernel) rfl, ⟨21, ok_callv (by decide) (by decide +kernel) c_61, ⟨24, ok_putf (by decide +kernel) fp_96, ⟨25, ok_aload_n (q := 1) (by decide +kernel) rfl, ⟨28, ok_callv (by decide) (by decide +kernel) c_62, ⟨29, ok_aload_n (q := 1) (by decide +kernel) rfl, ⟨30, ok_aload_n (q := 1) (by decide +kernel) rfl, ⟨33, ok_callv (by decide) (by decide +kernel) c_63, ⟨36, ok_putf (by decide +kernel) fp_97, ⟨37, ok_aload_n (q := 0) (by decide +kernel) rfl, ⟨40, ok_getf (by decide +kernel) fo_30, ⟨41, ok_aload_n (q := 1) (by decide +kernel) rfl, ⟨44, ok_callv (by decide) (by decide +kernel) c_64, ⟨45, ok_pop (by decide +kernel), ⟨46, ok_vret (by decide +kernel) rfl, trivial⟩⟩⟩⟩⟩⟩⟩⟩⟩⟩⟩⟩⟩⟩⟩⟩⟩⟩⟩⟩⟩⟩⟩⟩
set_option maxRecDepth 100000 in
theorem gd_57 : sd_Good mi_l ⟨"ConeForms", "settle", "(LConeForms$Node;I)V"⟩ prog_1_method_10_code 3 none cd_57 :=
  ⟨by decide +kernel, sd_bp pl_57, rfl, fun k => sd_Als.at (Bs := [B_57_0]) (ps := pl_57) ⟨_, _, rfl, al_57_0, trivial⟩ k.toNat⟩
def pl_58 : List Nat := [0, 40, 76, 112, 188, 202, 203]
set_option maxRecDepth 100000 in
theorem al_58_0 : sd_Al mi_l "ConeForms$Bend" "signsDue" prog_2_method_4_code 1 (some FieldType.int) (sd_bp pl_58) B_58_0 0 := ⟨1, ok_aload_n (q := 0) (by decide +kernel) rfl, ⟨4, ok_getf (by decide +kernel) fo_80, ⟨7, ok_callv (by decide) (by decide +kernel) c_58, ⟨40, ok_tsw (d' := 181) (offs := #[33, 69, 181, 181, 105]) (len := 33) (by decide +kernel) (by decide) (by decide) (by decide) (by decide) (by decide), trivial⟩⟩⟩⟩
set_option maxRecDepth 100000 in
theorem al_58_1 : sd_Al mi_l "ConeForms$Bend" "signsDue" prog_2_method_4_code 1 (some FieldType.int) (sd_bp pl_58) B_58_1 40 := ⟨41, ok_aload_n (q := 0) (by decide +kernel) rfl, ⟨44, ok_getf (by decide +kernel) fo_81, ⟨47, ok_getf (by decide +kernel) fo_98, ⟨48, ok_aload_n (q := 0) (by decide +kernel) rfl, ⟨51, ok_getf (by decide +kernel) fo_83, ⟨54, ok_getf (by decide +kernel) fo_98, ⟨55, ok_ior (by decide +kernel), ⟨56, ok_iconst (by decide +kernel), ⟨57, ok_iand (by decide +kernel), ⟨58, ok_aload_n (q := 0) (by decide +kernel) rfl, ⟨61, ok_getf (by decide +kernel) fo_81, ⟨64, ok_getf (by decide +kernel) fo_98, ⟨65, ok_aload_n (q := 0) (by decide +kernel) rfl, ⟨68, ok_getf (by decide +kernel) fo_83, ⟨71, ok_getf (by decide +kernel) fo_98, ⟨72, ok_iand (by decide +kernel), ⟨73, ok_iconst (by decide +kernel), ⟨74, ok_iand (by decide +kernel), ⟨75, ok_ior (by decide +kernel), ⟨76, ok_ireti (by decide +kernel) rfl, trivial⟩⟩⟩⟩⟩⟩⟩⟩⟩⟩⟩⟩⟩⟩⟩⟩⟩⟩⟩⟩
set_option maxRecDepth 100000 in
theorem al_58_2 : sd_Al mi_l "ConeForms$Bend" "signsDue" prog_2_method_4_code 1 (some FieldType.int) (sd_bp pl_58) B_58_2 76 := ⟨77, ok_aload_n (q := 0) (by decide +kernel) rfl, ⟨80, ok_getf (by decide +kernel) fo_81, ⟨83, ok_getf (by decide +kernel) fo_98, ⟨84, ok_aload_n (q := 0) (by decide +kernel) rfl, ⟨87, ok_getf (by decide +kernel) fo_83, ⟨90, ok_getf (by decide +kernel) fo_98, ⟨91, ok_iand (by decide +kernel), ⟨92, ok_iconst (by decide +kernel), ⟨93, ok_iand (by decide +kernel), ⟨94, ok_aload_n (q := 0) (by decide +kernel) rfl, ⟨97, ok_getf (by decide +kernel) fo_81, ⟨100, ok_getf (by decide +kernel) fo_98, ⟨101, ok_aload_n (q := 0) (by decide +kernel) rfl, ⟨104, ok_getf (by decide +kernel) fo_83, ⟨107, ok_getf (by decide +kernel) fo_98, ⟨108, ok_ior (by decide +kernel), ⟨109, ok_iconst (by decide +kernel), ⟨110, ok_iand (by decide +kernel), ⟨111, ok_ior (by decide +kernel), ⟨112, ok_ireti (by decide +kernel) rfl, trivial⟩⟩⟩⟩⟩⟩⟩⟩⟩⟩⟩⟩⟩⟩⟩⟩⟩⟩⟩⟩
set_option maxRecDepth 100000 in
theorem al_58_3 : sd_Al mi_l "ConeForms$Bend" "signsDue" prog_2_method_4_code 1 (some FieldType.int) (sd_bp pl_58) B_58_3 112 := ⟨113, ok_aload_n (q := 0) (by decide +kernel) rfl, ⟨116, ok_getf (by decide +kernel) fo_81, ⟨119, ok_getf (by decide +kernel) fo_98, ⟨120, ok_aload_n (q := 0) (by decide +kernel) rfl, ⟨123, ok_getf (by decide +kernel) fo_83, ⟨126, ok_getf (by decide +kernel) fo_98, ⟨127, ok_ior (by decide +kernel), ⟨128, ok_aload_n (q := 0) (by decide +kernel) rfl, ⟨131, ok_getf (by decide +kernel) fo_84, ⟨134, ok_getf (by decide +kernel) fo_98, ⟨135, ok_ior (by decide +kernel), ⟨136, ok_iconst (by decide +kernel), ⟨137, ok_iand (by decide +kernel), ⟨138, ok_aload_n (q := 0) (by decide +kernel) rfl, ⟨141, ok_getf (by decide +kernel) fo_81, ⟨144, ok_getf (by decide +kernel) fo_98, ⟨145, ok_aload_n (q := 0) (by decide +kernel) rfl, ⟨148, ok_getf (by decide +kernel) fo_83, ⟨151, ok_getf (by decide +kernel) fo_98, ⟨152, ok_iand (by decide +kernel), ⟨153, ok_aload_n (q := 0) (by decide +kernel) rfl, ⟨156, ok_getf (by decide +kernel) fo_81, ⟨159, ok_getf (by decide +kernel) fo_98, ⟨160, ok_aload_n (q := 0) (by decide +kernel) rfl, ⟨163, ok_getf (by decide +kernel) fo_84, ⟨166, ok_getf (by decide +kernel) fo_98, ⟨167, ok_iand (by decide +kernel), ⟨168, ok_ior (by decide +kernel), ⟨169, ok_aload_n (q := 0) (by decide +kernel) rfl, ⟨172, ok_getf (by decide +kernel) fo_83, ⟨175, ok_getf (by decide +kernel) fo_98, ⟨176, ok_aload_n (q := 0) (by decide +kernel) rfl, ⟨179, ok_getf (by decide +kernel) fo_84, ⟨182, ok_getf (by decide +kernel) fo_98, ⟨183, ok_iand (by decide +kernel), ⟨184, ok_ior (by decide +kernel), ⟨185, ok_iconst (by decide +kernel), ⟨186, ok_iand (by decide +kernel), ⟨187, ok_ior (by decide +kernel), ⟨188, ok_ireti (by decide +kernel) rfl, trivial⟩⟩⟩⟩⟩⟩⟩⟩⟩⟩⟩⟩⟩⟩⟩⟩⟩⟩⟩⟩⟩⟩⟩⟩⟩⟩⟩⟩⟩⟩⟩⟩⟩⟩⟩⟩⟩⟩⟩⟩
set_option maxRecDepth 100000 in
theorem al_58_4 : sd_Al mi_l "ConeForms$Bend" "signsDue" prog_2_method_4_code 1 (some FieldType.int) (sd_bp pl_58) B_58_4 188 := ⟨189, ok_aload_n (q := 0) (by decide +kernel) rfl, ⟨192, ok_getf (by decide +kernel) fo_81, ⟨195, ok_getf (by decide +kernel) fo_98, ⟨198, ok_if (off := 7) (by decide +kernel) (by decide), ⟨199, ok_iconst (by decide +kernel), ⟨202, ok_goto (off := 4) (by decide +kernel) (by decide), trivial⟩⟩⟩⟩⟩⟩
set_option maxRecDepth 100000 in
theorem al_58_5 : sd_Al mi_l "ConeForms$Bend" "signsDue" prog_2_method_4_code 1 (some FieldType.int) (sd_bp pl_58) B_58_5 202 := ⟨203, ok_iconst (by decide +kernel), ⟨203, ok_fall rfl, trivial⟩⟩
set_option maxRecDepth 100000 in
theorem al_58_6 : sd_Al mi_l "ConeForms$Bend" "signsDue" prog_2_method_4_code 1 (some FieldType.int) (sd_bp pl_58) B_58_6 203 := ⟨204, ok_ireti (by decide +kernel) rfl, trivial⟩
set_option maxRecDepth 100000 in
theorem gd_58 : sd_Good mi_l ⟨"ConeForms$Bend", "signsDue", "()I"⟩ prog_2_method_4_code 1 (some FieldType.int) cd_58 :=
  ⟨by decide +kernel, sd_bp pl_58, rfl, fun k => sd_Als.at (Bs := [B_58_0, B_58_1, B_58_2, B_58_3, B_58_4, B_58_5, B_58_6]) (ps := pl_58) ⟨_, _, rfl, al_58_0, ⟨_, _, rfl, al_58_1, ⟨_, _, rfl, al_58_2, ⟨_, _, rfl, al_58_3, ⟨_, _, rfl, al_58_4, ⟨_, _, rfl, al_58_5, ⟨_, _, rfl, al_58_6, trivial⟩⟩⟩⟩⟩⟩⟩ k.toNat⟩
def pl_59 : List Nat := [0, 21, 22, 23, 36, 49, 50]
set_option maxRecDepth 100000 in
theorem al_59_0 : sd_Al mi_l "ConeForms$Leaf" "signsDue" prog_4_method_4_code 1 (some FieldType.int) (sd_bp pl_59) B_59_0 0 := ⟨1, ok_aload_n (q := 0) (by decide +kernel) rfl, ⟨4, ok_getf (by decide +kernel) fo_86, ⟨7, ok_getsK (by decide +kernel) (by decide) rfl g_457, ⟨10, ok_acmp (off := 16) (by decide +kernel) (by decide), ⟨11, ok_aload_n (q := 0) (by decide +kernel) rfl, ⟨14, ok_getf (by decide +kernel) fo_87, ⟨17, ok_if (off := 7) (by decide +kernel) (by decide), ⟨18, ok_iconst (by decide +kernel), ⟨21, ok_goto (off := 4) (by decide +kernel) (by decide), trivial⟩⟩⟩⟩⟩⟩⟩⟩⟩
set_option maxRecDepth 100000 in
theorem al_59_1 : sd_Al mi_l "ConeForms$Leaf" "signsDue" prog_4_method_4_code 1 (some FieldType.int) (sd_bp pl_59) B_59_1 21 := ⟨22, ok_iconst (by decide +kernel), ⟨22, ok_fall rfl, trivial⟩⟩
set_option maxRecDepth 100000 in
theorem al_59_2 : sd_Al mi_l "ConeForms$Leaf" "signsDue" prog_4_method_4_code 1 (some FieldType.int) (sd_bp pl_59) B_59_2 22 := ⟨23, ok_ireti (by decide +kernel) rfl, trivial⟩
set_option maxRecDepth 100000 in
theorem al_59_3 : sd_Al mi_l "ConeForms$Leaf" "signsDue" prog_4_method_4_code 1 (some FieldType.int) (sd_bp pl_59) B_59_3 23 := ⟨24, ok_aload_n (q := 0) (by decide +kernel) rfl, ⟨27, ok_getf (by decide +kernel) fo_87, ⟨29, ok_bipush (n2 := 112) (by decide +kernel) (by decide), ⟨32, ok_icmp (off := 7) (by decide +kernel) (by decide), ⟨33, ok_iconst (by decide +kernel), ⟨36, ok_goto (off := 17) (by decide +kernel) (by decide), trivial⟩⟩⟩⟩⟩⟩
set_option maxRecDepth 100000 in
theorem al_59_4 : sd_Al mi_l "ConeForms$Leaf" "signsDue" prog_4_method_4_code 1 (some FieldType.int) (sd_bp pl_59) B_59_4 36 := ⟨37, ok_aload_n (q := 0) (by decide +kernel) rfl, ⟨40, ok_getf (by decide +kernel) fo_87, ⟨42, ok_bipush (n2 := 113) (by decide +kernel) (by decide), ⟨45, ok_icmp (off := 7) (by decide +kernel) (by decide), ⟨46, ok_iconst (by decide +kernel), ⟨49, ok_goto (off := 4) (by decide +kernel) (by decide), trivial⟩⟩⟩⟩⟩⟩
set_option maxRecDepth 100000 in
theorem al_59_5 : sd_Al mi_l "ConeForms$Leaf" "signsDue" prog_4_method_4_code 1 (some FieldType.int) (sd_bp pl_59) B_59_5 49 := ⟨50, ok_iconst (by decide +kernel), ⟨50, ok_fall rfl, trivial⟩⟩
set_option maxRecDepth 100000 in
theorem al_59_6 : sd_Al mi_l "ConeForms$Leaf" "signsDue" prog_4_method_4_code 1 (some FieldType.int) (sd_bp pl_59) B_59_6 50 := ⟨51, ok_ireti (by decide +kernel) rfl, trivial⟩
set_option maxRecDepth 100000 in
theorem gd_59 : sd_Good mi_l ⟨"ConeForms$Leaf", "signsDue", "()I"⟩ prog_4_method_4_code 1 (some FieldType.int) cd_59 :=
  ⟨by decide +kernel, sd_bp pl_59, rfl, fun k => sd_Als.at (Bs := [B_59_0, B_59_1, B_59_2, B_59_3, B_59_4, B_59_5, B_59_6]) (ps := pl_59) ⟨_, _, rfl, al_59_0, ⟨_, _, rfl, al_59_1, ⟨_, _, rfl, al_59_2, ⟨_, _, rfl, al_59_3, ⟨_, _, rfl, al_59_4, ⟨_, _, rfl, al_59_5, ⟨_, _, rfl, al_59_6, trivial⟩⟩⟩⟩⟩⟩⟩ k.toNat⟩
def pl_60 : List Nat := [0, 28, 59, 69]
set_option maxRecDepth 100000 in
theorem al_60_0 : sd_Al mi_l "ConeForms$Linear" "signsDue" prog_5_method_4_code 1 (some FieldType.int) (sd_bp pl_60) B_60_0 0 := ⟨1, ok_aload_n (q := 0) (by decide +kernel) rfl, ⟨4, ok_getf (by decide +kernel) fo_99, ⟨7, ok_getsK (by decide +kernel) (by decide) rfl g_670, ⟨10, ok_acmp (off := 21) (by decide +kernel) (by decide), ⟨11, ok_aload_n (q := 0) (by decide +kernel) rfl, ⟨14, ok_getf (by decide +kernel) fo_89, ⟨17, ok_getf (by decide +kernel) fo_100, ⟨18, ok_aload_n (q := 0) (by decide +kernel) rfl, ⟨21, ok_getf (by decide +kernel) fo_88, ⟨24, ok_getf (by decide +kernel) fo_100, ⟨25, ok_ior (by decide +kernel), ⟨28, ok_goto (off := 44) (by decide +kernel) (by decide), trivial⟩⟩⟩⟩⟩⟩⟩⟩⟩⟩⟩⟩
set_option maxRecDepth 100000 in
theorem al_60_1 : sd_Al mi_l "ConeForms$Linear" "signsDue" prog_5_method_4_code 1 (some FieldType.int) (sd_bp pl_60) B_60_1 28 := ⟨29, ok_aload_n (q := 0) (by decide +kernel) rfl, ⟨32, ok_getf (by decide +kernel) fo_99, ⟨35, ok_getsK (by decide +kernel) (by decide) rfl g_671, ⟨38, ok_acmp (off := 24) (by decide +kernel) (by decide), ⟨39, ok_aload_n (q := 0) (by decide +kernel) rfl, ⟨42, ok_getf (by decide +kernel) fo_89, ⟨45, ok_getf (by decide +kernel) fo_100, ⟨46, ok_aload_n (q := 0) (by decide +kernel) rfl, ⟨49, ok_getf (by decide +kernel) fo_88, ⟨52, ok_getf (by decide +kernel) fo_100, ⟨55, ok_calls (by decide +kernel) (by rfl) c_65, ⟨56, ok_ior (by decide +kernel), ⟨59, ok_goto (off := 13) (by decide +kernel) (by decide), trivial⟩⟩⟩⟩⟩⟩⟩⟩⟩⟩⟩⟩⟩
set_option maxRecDepth 100000 in
theorem al_60_2 : sd_Al mi_l "ConeForms$Linear" "signsDue" prog_5_method_4_code 1 (some FieldType.int) (sd_bp pl_60) B_60_2 59 := ⟨60, ok_aload_n (q := 0) (by decide +kernel) rfl, ⟨63, ok_getf (by decide +kernel) fo_89, ⟨66, ok_getf (by decide +kernel) fo_100, ⟨69, ok_calls (by decide +kernel) (by rfl) c_65, ⟨69, ok_fall rfl, trivial⟩⟩⟩⟩⟩
set_option maxRecDepth 100000 in
theorem al_60_3 : sd_Al mi_l "ConeForms$Linear" "signsDue" prog_5_method_4_code 1 (some FieldType.int) (sd_bp pl_60) B_60_3 69 := ⟨70, ok_ireti (by decide +kernel) rfl, trivial⟩
set_option maxRecDepth 100000 in
theorem gd_60 : sd_Good mi_l ⟨"ConeForms$Linear", "signsDue", "()I"⟩ prog_5_method_4_code 1 (some FieldType.int) cd_60 :=
  ⟨by decide +kernel, sd_bp pl_60, rfl, fun k => sd_Als.at (Bs := [B_60_0, B_60_1, B_60_2, B_60_3]) (ps := pl_60) ⟨_, _, rfl, al_60_0, ⟨_, _, rfl, al_60_1, ⟨_, _, rfl, al_60_2, ⟨_, _, rfl, al_60_3, trivial⟩⟩⟩⟩ k.toNat⟩
def pl_61 : List Nat := [0]
set_option maxRecDepth 100000 in
theorem al_61_0 : sd_Al mi_l "ConeForms" "turned" prog_1_method_1_code 1 (some FieldType.int) (sd_bp pl_61) B_61_0 0 := ⟨1, ok_iload_n (q := 0) (by decide +kernel) rfl, ⟨2, ok_iconst (by decide +kernel), ⟨3, ok_iand (by decide +kernel), ⟨4, ok_iconst (by decide +kernel), ⟨5, ok_ishl (by decide +kernel), ⟨6, ok_iload_n (q := 0) (by decide +kernel) rfl, ⟨7, ok_iconst (by decide +kernel), ⟨8, ok_iand (by decide +kernel), ⟨9, ok_iconst (by decide +kernel), ⟨10, ok_ishr (by decide +kernel), ⟨11, ok_ior (by decide +kernel), ⟨12, ok_ireti (by decide +kernel) rfl, trivial⟩⟩⟩⟩⟩⟩⟩⟩⟩⟩⟩⟩
set_option maxRecDepth 100000 in
theorem gd_61 : sd_Good mi_l ⟨"ConeForms", "turned", "(I)I"⟩ prog_1_method_1_code 1 (some FieldType.int) cd_61 :=
  ⟨by decide +kernel, sd_bp pl_61, rfl, fun k => sd_Als.at (Bs := [B_61_0]) (ps := pl_61) ⟨_, _, rfl, al_61_0, trivial⟩ k.toNat⟩
def pl_62 : List Nat := [0, 24, 49]
set_option maxRecDepth 100000 in
theorem al_62_0 : sd_Al mi_l "ConeForms$Product" "signsDue" prog_7_method_4_code 2 (some FieldType.int) (sd_bp pl_62) B_62_0 0 := ⟨1, ok_iconst (by decide +kernel), ⟨2, ok_istore_n (q := 1) (by decide +kernel) rfl, ⟨3, ok_aload_n (q := 0) (by decide +kernel) rfl, ⟨6, ok_getf (by decide +kernel) fo_91, ⟨9, ok_getf (by decide +kernel) fo_101, ⟨10, ok_aload_n (q := 0) (by decide +kernel) rfl, ⟨13, ok_getf (by decide +kernel) fo_93, ⟨16, ok_getf (by decide +kernel) fo_101, ⟨17, ok_iand (by decide +kernel), ⟨20, ok_if (off := 7) (by decide +kernel) (by decide), ⟨21, ok_iload_n (q := 1) (by decide +kernel) rfl, ⟨22, ok_iconst (by decide +kernel), ⟨23, ok_ior (by decide +kernel), ⟨24, ok_istore_n (q := 1) (by decide +kernel) rfl, ⟨24, ok_fall rfl, trivial⟩⟩⟩⟩⟩⟩⟩⟩⟩⟩⟩⟩⟩⟩⟩
set_option maxRecDepth 100000 in
theorem al_62_1 : sd_Al mi_l "ConeForms$Product" "signsDue" prog_7_method_4_code 2 (some FieldType.int) (sd_bp pl_62) B_62_1 24 := ⟨25, ok_aload_n (q := 0) (by decide +kernel) rfl, ⟨28, ok_getf (by decide +kernel) fo_91, ⟨31, ok_getf (by decide +kernel) fo_101, ⟨32, ok_aload_n (q := 0) (by decide +kernel) rfl, ⟨35, ok_getf (by decide +kernel) fo_93, ⟨38, ok_getf (by decide +kernel) fo_101, ⟨41, ok_calls (by decide +kernel) (by rfl) c_66, ⟨42, ok_iand (by decide +kernel), ⟨45, ok_if (off := 7) (by decide +kernel) (by decide), ⟨46, ok_iload_n (q := 1) (by decide +kernel) rfl, ⟨47, ok_iconst (by decide +kernel), ⟨48, ok_ior (by decide +kernel), ⟨49, ok_istore_n (q := 1) (by decide +kernel) rfl, ⟨49, ok_fall rfl, trivial⟩⟩⟩⟩⟩⟩⟩⟩⟩⟩⟩⟩⟩⟩
set_option maxRecDepth 100000 in
theorem al_62_2 : sd_Al mi_l "ConeForms$Product" "signsDue" prog_7_method_4_code 2 (some FieldType.int) (sd_bp pl_62) B_62_2 49 := ⟨50, ok_iload_n (q := 1) (by decide +kernel) rfl, ⟨51, ok_ireti (by decide +kernel) rfl, trivial⟩⟩
set_option maxRecDepth 100000 in
theorem gd_62 : sd_Good mi_l ⟨"ConeForms$Product", "signsDue", "()I"⟩ prog_7_method_4_code 2 (some FieldType.int) cd_62 :=
  ⟨by decide +kernel, sd_bp pl_62, rfl, fun k => sd_Als.at (Bs := [B_62_0, B_62_1, B_62_2]) (ps := pl_62) ⟨_, _, rfl, al_62_0, ⟨_, _, rfl, al_62_1, ⟨_, _, rfl, al_62_2, trivial⟩⟩⟩ k.toNat⟩
def pl_63 : List Nat := [0, 20, 24, 25, 54, 84, 85, 97, 101, 102, 122, 124, 126, 142, 159, 165, 183, 198, 206, 215, 216, 222, 233, 244, 249, 250, 253, 277, 288, 299, 301, 304]
set_option maxRecDepth 100000 in
theorem al_63_0 : sd_Al mi_l "ConeForms$Node" "judge" prog_6_method_11_code 11 none (sd_bp pl_63) B_63_0 0 := ⟨1, ok_aload_n (q := 0) (by decide +kernel) rfl, ⟨4, ok_getf (by decide +kernel) fo_102, ⟨7, ok_getf (by decide +kernel) fo_103, ⟨10, ok_if (off := 13) (by decide +kernel) (by decide), ⟨11, ok_aload_n (q := 0) (by decide +kernel) rfl, ⟨14, ok_getf (by decide +kernel) fo_102, ⟨17, ok_getf (by decide +kernel) fo_104, ⟨20, ok_if (off := 7) (by decide +kernel) (by decide), ⟨20, ok_fall rfl, trivial⟩⟩⟩⟩⟩⟩⟩⟩⟩
set_option maxRecDepth 100000 in
theorem al_63_1 : sd_Al mi_l "ConeForms$Node" "judge" prog_6_method_11_code 11 none (sd_bp pl_63) B_63_1 20 := ⟨21, ok_iconst (by decide +kernel), ⟨24, ok_goto (off := 4) (by decide +kernel) (by decide), trivial⟩⟩
set_option maxRecDepth 100000 in
theorem al_63_2 : sd_Al mi_l "ConeForms$Node" "judge" prog_6_method_11_code 11 none (sd_bp pl_63) B_63_2 24 := ⟨25, ok_iconst (by decide +kernel), ⟨25, ok_fall rfl, trivial⟩⟩
set_option maxRecDepth 100000 in
theorem al_63_3 : sd_Al mi_l "ConeForms$Node" "judge" prog_6_method_11_code 11 none (sd_bp pl_63) B_63_3 25 := ⟨26, ok_istore_n (q := 1) (by decide +kernel) rfl, ⟨27, ok_iconst (by decide +kernel), ⟨28, ok_istore_n (q := 2) (by decide +kernel) rfl, ⟨29, ok_iconst (by decide +kernel), ⟨30, ok_istore_n (q := 3) (by decide +kernel) rfl, ⟨31, ok_iconst (by decide +kernel), ⟨33, ok_istore (by decide +kernel), ⟨34, ok_iconst (by decide +kernel), ⟨36, ok_istore (by decide +kernel), ⟨37, ok_iconst (by decide +kernel), ⟨39, ok_istore (by decide +kernel), ⟨40, ok_iconst (by decide +kernel), ⟨42, ok_istore (by decide +kernel), ⟨43, ok_iconst (by decide +kernel), ⟨45, ok_istore (by decide +kernel), ⟨46, ok_aload_n (q := 0) (by decide +kernel) rfl, ⟨49, ok_getf (by decide +kernel) fo_102, ⟨52, ok_getf (by decide +kernel) fo_104, ⟨54, ok_istore (by decide +kernel), ⟨54, ok_fall rfl, trivial⟩⟩⟩⟩⟩⟩⟩⟩⟩⟩⟩⟩⟩⟩⟩⟩⟩⟩⟩⟩
set_option maxRecDepth 100000 in
theorem al_63_4 : sd_Al mi_l "ConeForms$Node" "judge" prog_6_method_11_code 11 none (sd_bp pl_63) B_63_4 54 := ⟨56, ok_iload (by decide +kernel), ⟨57, ok_iconst (by decide +kernel), ⟨60, ok_icmp (off := 108) (by decide +kernel) (by decide), ⟨61, ok_aload_n (q := 0) (by decide +kernel) rfl, ⟨63, ok_iload (by decide +kernel), ⟨66, ok_callv (by decide) (by decide +kernel) c_67, ⟨69, ok_getf (by decide +kernel) fo_105, ⟨71, ok_istore (by decide +kernel), ⟨72, ok_iload_n (q := 1) (by decide +kernel) rfl, ⟨75, ok_if (off := 12) (by decide +kernel) (by decide), ⟨77, ok_iload (by decide +kernel), ⟨80, ok_if (off := 7) (by decide +kernel) (by decide), ⟨81, ok_iconst (by decide +kernel), ⟨84, ok_goto (off := 4) (by decide +kernel) (by decide), trivial⟩⟩⟩⟩⟩⟩⟩⟩⟩⟩⟩⟩⟩⟩
set_option maxRecDepth 100000 in
theorem al_63_5 : sd_Al mi_l "ConeForms$Node" "judge" prog_6_method_11_code 11 none (sd_bp pl_63) B_63_5 84 := ⟨85, ok_iconst (by decide +kernel), ⟨85, ok_fall rfl, trivial⟩⟩
set_option maxRecDepth 100000 in
theorem al_63_6 : sd_Al mi_l "ConeForms$Node" "judge" prog_6_method_11_code 11 none (sd_bp pl_63) B_63_6 85 := ⟨86, ok_istore_n (q := 1) (by decide +kernel) rfl, ⟨88, ok_iload (by decide +kernel), ⟨91, ok_if (off := 9) (by decide +kernel) (by decide), ⟨93, ok_iload (by decide +kernel), ⟨94, ok_iconst (by decide +kernel), ⟨97, ok_icmp (off := 7) (by decide +kernel) (by decide), ⟨97, ok_fall rfl, trivial⟩⟩⟩⟩⟩⟩⟩
set_option maxRecDepth 100000 in
theorem al_63_7 : sd_Al mi_l "ConeForms$Node" "judge" prog_6_method_11_code 11 none (sd_bp pl_63) B_63_7 97 := ⟨98, ok_iconst (by decide +kernel), ⟨101, ok_goto (off := 4) (by decide +kernel) (by decide), trivial⟩⟩
set_option maxRecDepth 100000 in
theorem al_63_8 : sd_Al mi_l "ConeForms$Node" "judge" prog_6_method_11_code 11 none (sd_bp pl_63) B_63_8 101 := ⟨102, ok_iconst (by decide +kernel), ⟨102, ok_fall rfl, trivial⟩⟩
set_option maxRecDepth 100000 in
theorem al_63_9 : sd_Al mi_l "ConeForms$Node" "judge" prog_6_method_11_code 11 none (sd_bp pl_63) B_63_9 102 := ⟨104, ok_istore (by decide +kernel), ⟨106, ok_iload (by decide +kernel), ⟨107, ok_iconst (by decide +kernel), ⟨110, ok_icmp (off := 19) (by decide +kernel) (by decide), ⟨111, ok_iconst (by decide +kernel), ⟨112, ok_istore_n (q := 2) (by decide +kernel) rfl, ⟨114, ok_iload (by decide +kernel), ⟨117, ok_if (off := 8) (by decide +kernel) (by decide), ⟨119, ok_iload (by decide +kernel), ⟨122, ok_goto (off := 5) (by decide +kernel) (by decide), trivial⟩⟩⟩⟩⟩⟩⟩⟩⟩⟩
set_option maxRecDepth 100000 in
theorem al_63_10 : sd_Al mi_l "ConeForms$Node" "judge" prog_6_method_11_code 11 none (sd_bp pl_63) B_63_10 122 := ⟨124, ok_iload (by decide +kernel), ⟨124, ok_fall rfl, trivial⟩⟩
set_option maxRecDepth 100000 in
theorem al_63_11 : sd_Al mi_l "ConeForms$Node" "judge" prog_6_method_11_code 11 none (sd_bp pl_63) B_63_11 124 := ⟨126, ok_istore (by decide +kernel), ⟨126, ok_fall rfl, trivial⟩⟩
set_option maxRecDepth 100000 in
theorem al_63_12 : sd_Al mi_l "ConeForms$Node" "judge" prog_6_method_11_code 11 none (sd_bp pl_63) B_63_12 126 := ⟨127, ok_aload_n (q := 0) (by decide +kernel) rfl, ⟨129, ok_iload (by decide +kernel), ⟨130, ok_iconst (by decide +kernel), ⟨133, ok_callv (by decide) (by decide +kernel) c_68, ⟨136, ok_if (off := 9) (by decide +kernel) (by decide), ⟨137, ok_iconst (by decide +kernel), ⟨138, ok_istore_n (q := 3) (by decide +kernel) rfl, ⟨140, ok_iload (by decide +kernel), ⟨142, ok_istore (by decide +kernel), ⟨142, ok_fall rfl, trivial⟩⟩⟩⟩⟩⟩⟩⟩⟩⟩
set_option maxRecDepth 100000 in
theorem al_63_13 : sd_Al mi_l "ConeForms$Node" "judge" prog_6_method_11_code 11 none (sd_bp pl_63) B_63_13 142 := ⟨143, ok_aload_n (q := 0) (by decide +kernel) rfl, ⟨145, ok_iload (by decide +kernel), ⟨146, ok_iconst (by decide +kernel), ⟨149, ok_callv (by decide) (by decide +kernel) c_68, ⟨152, ok_if (off := 10) (by decide +kernel) (by decide), ⟨153, ok_iconst (by decide +kernel), ⟨155, ok_istore (by decide +kernel), ⟨157, ok_iload (by decide +kernel), ⟨159, ok_istore (by decide +kernel), ⟨159, ok_fall rfl, trivial⟩⟩⟩⟩⟩⟩⟩⟩⟩⟩
set_option maxRecDepth 100000 in
theorem al_63_14 : sd_Al mi_l "ConeForms$Node" "judge" prog_6_method_11_code 11 none (sd_bp pl_63) B_63_14 159 := ⟨162, ok_iinc (by decide +kernel), ⟨165, ok_goto (off := (-108)) (by decide +kernel) (by decide), trivial⟩⟩
set_option maxRecDepth 100000 in
theorem al_63_15 : sd_Al mi_l "ConeForms$Node" "judge" prog_6_method_11_code 11 none (sd_bp pl_63) B_63_15 165 := ⟨166, ok_aload_n (q := 0) (by decide +kernel) rfl, ⟨169, ok_callv (by decide) (by decide +kernel) c_69, ⟨171, ok_istore (by decide +kernel), ⟨172, ok_iload_n (q := 1) (by decide +kernel) rfl, ⟨175, ok_if (off := 11) (by decide +kernel) (by decide), ⟨176, ok_aload_n (q := 0) (by decide +kernel) rfl, ⟨177, ok_iconst (by decide +kernel), ⟨180, ok_putf (by decide +kernel) fp_106, ⟨183, ok_goto (off := 73) (by decide +kernel) (by decide), trivial⟩⟩⟩⟩⟩⟩⟩⟩⟩
set_option maxRecDepth 100000 in
theorem al_63_16 : sd_Al mi_l "ConeForms$Node" "judge" prog_6_method_11_code 11 none (sd_bp pl_63) B_63_16 183 := ⟨185, ok_iload (by decide +kernel), ⟨186, ok_iconst (by decide +kernel), ⟨189, ok_icmp (off := 36) (by decide +kernel) (by decide), ⟨190, ok_aload_n (q := 0) (by decide +kernel) rfl, ⟨191, ok_iload_n (q := 2) (by decide +kernel) rfl, ⟨194, ok_if (off := 7) (by decide +kernel) (by decide), ⟨195, ok_iconst (by decide +kernel), ⟨198, ok_goto (off := 21) (by decide +kernel) (by decide), trivial⟩⟩⟩⟩⟩⟩⟩⟩
set_option maxRecDepth 100000 in
theorem al_63_17 : sd_Al mi_l "ConeForms$Node" "judge" prog_6_method_11_code 11 none (sd_bp pl_63) B_63_17 198 := ⟨199, ok_iload_n (q := 3) (by decide +kernel) rfl, ⟨202, ok_if (off := 7) (by decide +kernel) (by decide), ⟨203, ok_iconst (by decide +kernel), ⟨206, ok_goto (off := 13) (by decide +kernel) (by decide), trivial⟩⟩⟩⟩
set_option maxRecDepth 100000 in
theorem al_63_18 : sd_Al mi_l "ConeForms$Node" "judge" prog_6_method_11_code 11 none (sd_bp pl_63) B_63_18 206 := ⟨208, ok_iload (by decide +kernel), ⟨211, ok_if (off := 7) (by decide +kernel) (by decide), ⟨212, ok_iconst (by decide +kernel), ⟨215, ok_goto (off := 4) (by decide +kernel) (by decide), trivial⟩⟩⟩⟩
set_option maxRecDepth 100000 in
theorem al_63_19 : sd_Al mi_l "ConeForms$Node" "judge" prog_6_method_11_code 11 none (sd_bp pl_63) B_63_19 215 := ⟨216, ok_iconst (by decide +kernel), ⟨216, ok_fall rfl, trivial⟩⟩
set_option maxRecDepth 100000 in
theorem al_63_20 : sd_Al mi_l "ConeForms$Node" "judge" prog_6_method_11_code 11 none (sd_bp pl_63) B_63_20 216 := ⟨219, ok_putf (by decide +kernel) fp_106, ⟨222, ok_goto (off := 34) (by decide +kernel) (by decide), trivial⟩⟩
set_option maxRecDepth 100000 in
theorem al_63_21 : sd_Al mi_l "ConeForms$Node" "judge" prog_6_method_11_code 11 none (sd_bp pl_63) B_63_21 222 := ⟨223, ok_aload_n (q := 0) (by decide +kernel) rfl, ⟨225, ok_iload (by decide +kernel), ⟨226, ok_iconst (by decide +kernel), ⟨229, ok_icmp (off := 7) (by decide +kernel) (by decide), ⟨230, ok_iload_n (q := 3) (by decide +kernel) rfl, ⟨233, ok_if (off := 14) (by decide +kernel) (by decide), ⟨233, ok_fall rfl, trivial⟩⟩⟩⟩⟩⟩⟩
set_option maxRecDepth 100000 in
theorem al_63_22 : sd_Al mi_l "ConeForms$Node" "judge" prog_6_method_11_code 11 none (sd_bp pl_63) B_63_22 233 := ⟨235, ok_iload (by decide +kernel), ⟨236, ok_iconst (by decide +kernel), ⟨239, ok_icmp (off := 13) (by decide +kernel) (by decide), ⟨241, ok_iload (by decide +kernel), ⟨244, ok_if (off := 8) (by decide +kernel) (by decide), ⟨244, ok_fall rfl, trivial⟩⟩⟩⟩⟩⟩
set_option maxRecDepth 100000 in
theorem al_63_23 : sd_Al mi_l "ConeForms$Node" "judge" prog_6_method_11_code 11 none (sd_bp pl_63) B_63_23 244 := ⟨246, ok_iload (by decide +kernel), ⟨249, ok_goto (off := 4) (by decide +kernel) (by decide), trivial⟩⟩
set_option maxRecDepth 100000 in
theorem al_63_24 : sd_Al mi_l "ConeForms$Node" "judge" prog_6_method_11_code 11 none (sd_bp pl_63) B_63_24 249 := ⟨250, ok_iconst (by decide +kernel), ⟨250, ok_fall rfl, trivial⟩⟩
set_option maxRecDepth 100000 in
theorem al_63_25 : sd_Al mi_l "ConeForms$Node" "judge" prog_6_method_11_code 11 none (sd_bp pl_63) B_63_25 250 := ⟨253, ok_putf (by decide +kernel) fp_106, ⟨253, ok_fall rfl, trivial⟩⟩
set_option maxRecDepth 100000 in
theorem al_63_26 : sd_Al mi_l "ConeForms$Node" "judge" prog_6_method_11_code 11 none (sd_bp pl_63) B_63_26 253 := ⟨254, ok_aload_n (q := 0) (by decide +kernel) rfl, ⟨257, ok_getf (by decide +kernel) fo_105, ⟨258, ok_iconst (by decide +kernel), ⟨261, ok_icmp (off := 46) (by decide +kernel) (by decide), ⟨263, ok_iload (by decide +kernel), ⟨266, ok_if (off := 41) (by decide +kernel) (by decide), ⟨267, ok_aload_n (q := 0) (by decide +kernel) rfl, ⟨269, ok_iload (by decide +kernel), ⟨270, ok_iconst (by decide +kernel), ⟨273, ok_icmp (off := 7) (by decide +kernel) (by decide), ⟨274, ok_iconst (by decide +kernel), ⟨277, ok_goto (off := 27) (by decide +kernel) (by decide), trivial⟩⟩⟩⟩⟩⟩⟩⟩⟩⟩⟩⟩
set_option maxRecDepth 100000 in
theorem al_63_27 : sd_Al mi_l "ConeForms$Node" "judge" prog_6_method_11_code 11 none (sd_bp pl_63) B_63_27 277 := ⟨279, ok_iload (by decide +kernel), ⟨280, ok_iconst (by decide +kernel), ⟨283, ok_icmp (off := 8) (by decide +kernel) (by decide), ⟨285, ok_iload (by decide +kernel), ⟨288, ok_goto (off := 16) (by decide +kernel) (by decide), trivial⟩⟩⟩⟩⟩
set_option maxRecDepth 100000 in
theorem al_63_28 : sd_Al mi_l "ConeForms$Node" "judge" prog_6_method_11_code 11 none (sd_bp pl_63) B_63_28 288 := ⟨290, ok_iload (by decide +kernel), ⟨291, ok_iconst (by decide +kernel), ⟨294, ok_icmp (off := 8) (by decide +kernel) (by decide), ⟨296, ok_iload (by decide +kernel), ⟨299, ok_goto (off := 5) (by decide +kernel) (by decide), trivial⟩⟩⟩⟩⟩
set_option maxRecDepth 100000 in
theorem al_63_29 : sd_Al mi_l "ConeForms$Node" "judge" prog_6_method_11_code 11 none (sd_bp pl_63) B_63_29 299 := ⟨301, ok_iload (by decide +kernel), ⟨301, ok_fall rfl, trivial⟩⟩
set_option maxRecDepth 100000 in
theorem al_63_30 : sd_Al mi_l "ConeForms$Node" "judge" prog_6_method_11_code 11 none (sd_bp pl_63) B_63_30 301 := ⟨304, ok_putf (by decide +kernel) fp_107, ⟨304, ok_fall rfl, trivial⟩⟩
set_option maxRecDepth 100000 in
theorem al_63_31 : sd_Al mi_l "ConeForms$Node" "judge" prog_6_method_11_code 11 none (sd_bp pl_63) B_63_31 304 := ⟨305, ok_vret (by decide +kernel) rfl, trivial⟩
set_option maxRecDepth 100000 in
theorem gd_63 : sd_Good mi_l ⟨"ConeForms$Node", "judge", "()V"⟩ prog_6_method_11_code 11 none cd_63 :=
  ⟨by decide +kernel, sd_bp pl_63, rfl, fun k => sd_Als.at (Bs := [B_63_0, B_63_1, B_63_2, B_63_3, B_63_4, B_63_5, B_63_6, B_63_7, B_63_8, B_63_9, B_63_10, B_63_11, B_63_12, B_63_13, B_63_14, B_63_15, B_63_16, B_63_17, B_63_18, B_63_19, B_63_20, B_63_21, B_63_22, B_63_23, B_63_24, B_63_25, B_63_26, B_63_27, B_63_28, B_63_29, B_63_30, B_63_31]) (ps := pl_63) ⟨_, _, rfl, al_63_0, ⟨_, _, rfl, al_63_1, ⟨_, _, rfl, al_63_2, ⟨_, _, rfl, al_63_3, ⟨_, _, rfl, al_63_4, ⟨_, _, rfl, al_63_5, ⟨_, _, rfl, al_63_6, ⟨_, _, rfl, al_63_7, ⟨_, _, rfl, al_63_8, ⟨_, _, rfl, al_63_9, ⟨_, _, rfl, al_63_10, ⟨_, _, rfl, al_63_11, ⟨_, _, rfl, al_63_12, ⟨_, _, rfl, al_63_13, ⟨_, _, rfl, al_63_14, ⟨_, _, rfl, al_63_15, ⟨_, _, rfl, al_63_16, ⟨_, _, rfl, al_63_17, ⟨_, _, rfl, al_63_18, ⟨_, _, rfl, al_63_19, ⟨_, _, rfl, al_63_20, ⟨_, _, rfl, al_63_21, ⟨_, _, rfl, al_63_22, ⟨_, _, rfl, al_63_23, ⟨_, _, rfl, al_63_24, ⟨_, _, rfl, al_63_25, ⟨_, _, rfl, al_63_26, ⟨_, _, rfl, al_63_27, ⟨_, _, rfl, al_63_28, ⟨_, _, rfl, al_63_29, ⟨_, _, rfl, al_63_30, ⟨_, _, rfl, al_63_31, trivial⟩⟩⟩⟩⟩⟩⟩⟩⟩⟩⟩⟩⟩⟩⟩⟩⟩⟩⟩⟩⟩⟩⟩⟩⟩⟩⟩⟩⟩⟩⟩⟩ k.toNat⟩
def pl_64 : List Nat := [0, 12, 24, 28]
set_option maxRecDepth 100000 in
theorem al_64_0 : sd_Al mi_l "ConeForms$Node" "argument" prog_6_method_9_code 2 (some (FieldType.object "ConeForms$Node")) (sd_bp pl_64) B_64_0 0 := ⟨1, ok_iload_n (q := 1) (by decide +kernel) rfl, ⟨2, ok_iconst (by decide +kernel), ⟨5, ok_icmp (off := 10) (by decide +kernel) (by decide), ⟨6, ok_aload_n (q := 0) (by decide +kernel) rfl, ⟨9, ok_getf (by decide +kernel) fo_108, ⟨12, ok_goto (off := 19) (by decide +kernel) (by decide), trivial⟩⟩⟩⟩⟩⟩
set_option maxRecDepth 100000 in
theorem al_64_1 : sd_Al mi_l "ConeForms$Node" "argument" prog_6_method_9_code 2 (some (FieldType.object "ConeForms$Node")) (sd_bp pl_64) B_64_1 12 := ⟨13, ok_iload_n (q := 1) (by decide +kernel) rfl, ⟨14, ok_iconst (by decide +kernel), ⟨17, ok_icmp (off := 10) (by decide +kernel) (by decide), ⟨18, ok_aload_n (q := 0) (by decide +kernel) rfl, ⟨21, ok_getf (by decide +kernel) fo_109, ⟨24, ok_goto (off := 7) (by decide +kernel) (by decide), trivial⟩⟩⟩⟩⟩⟩
set_option maxRecDepth 100000 in
theorem al_64_2 : sd_Al mi_l "ConeForms$Node" "argument" prog_6_method_9_code 2 (some (FieldType.object "ConeForms$Node")) (sd_bp pl_64) B_64_2 24 := ⟨25, ok_aload_n (q := 0) (by decide +kernel) rfl, ⟨28, ok_getf (by decide +kernel) fo_110, ⟨28, ok_fall rfl, trivial⟩⟩⟩
set_option maxRecDepth 100000 in
theorem al_64_3 : sd_Al mi_l "ConeForms$Node" "argument" prog_6_method_9_code 2 (some (FieldType.object "ConeForms$Node")) (sd_bp pl_64) B_64_3 28 := ⟨29, ok_aret (by decide +kernel) (Or.inl ⟨_, rfl⟩), trivial⟩
set_option maxRecDepth 100000 in
theorem gd_64 : sd_Good mi_l ⟨"ConeForms$Node", "argument", "(I)LConeForms$Node;"⟩ prog_6_method_9_code 2 (some (FieldType.object "ConeForms$Node")) cd_64 :=
  ⟨by decide +kernel, sd_bp pl_64, rfl, fun k => sd_Als.at (Bs := [B_64_0, B_64_1, B_64_2, B_64_3]) (ps := pl_64) ⟨_, _, rfl, al_64_0, ⟨_, _, rfl, al_64_1, ⟨_, _, rfl, al_64_2, ⟨_, _, rfl, al_64_3, trivial⟩⟩⟩⟩ k.toNat⟩
def pl_65 : List Nat := [0, 16, 23, 44, 48, 57, 58]
set_option maxRecDepth 100000 in
theorem al_65_0 : sd_Al mi_l "ConeForms$Node" "admits" prog_6_method_10_code 5 (some FieldType.boolean) (sd_bp pl_65) B_65_0 0 := ⟨1, ok_aload_n (q := 0) (by decide +kernel) rfl, ⟨2, ok_iload_n (q := 1) (by decide +kernel) rfl, ⟨5, ok_callv (by decide) (by decide +kernel) c_67, ⟨8, ok_getf (by decide +kernel) fo_105, ⟨9, ok_istore_n (q := 3) (by decide +kernel) rfl, ⟨10, ok_iload_n (q := 3) (by decide +kernel) rfl, ⟨11, ok_iconst (by decide +kernel), ⟨14, ok_icmp (off := 5) (by decide +kernel) (by decide), ⟨15, ok_iconst (by decide +kernel), ⟨16, ok_iretz (by decide +kernel) rfl, trivial⟩⟩⟩⟩⟩⟩⟩⟩⟩⟩
set_option maxRecDepth 100000 in
theorem al_65_1 : sd_Al mi_l "ConeForms$Node" "admits" prog_6_method_10_code 5 (some FieldType.boolean) (sd_bp pl_65) B_65_1 16 := ⟨17, ok_iload_n (q := 3) (by decide +kernel) rfl, ⟨18, ok_iconst (by decide +kernel), ⟨21, ok_icmp (off := 5) (by decide +kernel) (by decide), ⟨22, ok_iconst (by decide +kernel), ⟨23, ok_iretz (by decide +kernel) rfl, trivial⟩⟩⟩⟩⟩
set_option maxRecDepth 100000 in
theorem al_65_2 : sd_Al mi_l "ConeForms$Node" "admits" prog_6_method_10_code 5 (some FieldType.boolean) (sd_bp pl_65) B_65_2 23 := ⟨24, ok_aload_n (q := 0) (by decide +kernel) rfl, ⟨25, ok_iload_n (q := 1) (by decide +kernel) rfl, ⟨28, ok_callv (by decide) (by decide +kernel) c_70, ⟨30, ok_istore (by decide +kernel), ⟨31, ok_iload_n (q := 3) (by decide +kernel) rfl, ⟨32, ok_iload_n (q := 2) (by decide +kernel) rfl, ⟨35, ok_icmp (off := 16) (by decide +kernel) (by decide), ⟨37, ok_iload (by decide +kernel), ⟨40, ok_if (off := 7) (by decide +kernel) (by decide), ⟨41, ok_iconst (by decide +kernel), ⟨44, ok_goto (off := 17) (by decide +kernel) (by decide), trivial⟩⟩⟩⟩⟩⟩⟩⟩⟩⟩⟩
set_option maxRecDepth 100000 in
theorem al_65_3 : sd_Al mi_l "ConeForms$Node" "admits" prog_6_method_10_code 5 (some FieldType.boolean) (sd_bp pl_65) B_65_3 44 := ⟨45, ok_iconst (by decide +kernel), ⟨48, ok_goto (off := 13) (by decide +kernel) (by decide), trivial⟩⟩
set_option maxRecDepth 100000 in
theorem al_65_4 : sd_Al mi_l "ConeForms$Node" "admits" prog_6_method_10_code 5 (some FieldType.boolean) (sd_bp pl_65) B_65_4 48 := ⟨50, ok_iload (by decide +kernel), ⟨53, ok_if (off := 7) (by decide +kernel) (by decide), ⟨54, ok_iconst (by decide +kernel), ⟨57, ok_goto (off := 4) (by decide +kernel) (by decide), trivial⟩⟩⟩⟩
set_option maxRecDepth 100000 in
theorem al_65_5 : sd_Al mi_l "ConeForms$Node" "admits" prog_6_method_10_code 5 (some FieldType.boolean) (sd_bp pl_65) B_65_5 57 := ⟨58, ok_iconst (by decide +kernel), ⟨58, ok_fall rfl, trivial⟩⟩
set_option maxRecDepth 100000 in
theorem al_65_6 : sd_Al mi_l "ConeForms$Node" "admits" prog_6_method_10_code 5 (some FieldType.boolean) (sd_bp pl_65) B_65_6 58 := ⟨59, ok_iretz (by decide +kernel) rfl, trivial⟩
set_option maxRecDepth 100000 in
theorem gd_65 : sd_Good mi_l ⟨"ConeForms$Node", "admits", "(II)Z"⟩ prog_6_method_10_code 5 (some FieldType.boolean) cd_65 :=
  ⟨by decide +kernel, sd_bp pl_65, rfl, fun k => sd_Als.at (Bs := [B_65_0, B_65_1, B_65_2, B_65_3, B_65_4, B_65_5, B_65_6]) (ps := pl_65) ⟨_, _, rfl, al_65_0, ⟨_, _, rfl, al_65_1, ⟨_, _, rfl, al_65_2, ⟨_, _, rfl, al_65_3, ⟨_, _, rfl, al_65_4, ⟨_, _, rfl, al_65_5, ⟨_, _, rfl, al_65_6, trivial⟩⟩⟩⟩⟩⟩⟩ k.toNat⟩
def pl_66 : List Nat := [0, 20, 33, 34]
set_option maxRecDepth 100000 in
theorem al_66_0 : sd_Al mi_l "ConeForms$Bend" "slope" prog_2_method_5_code 2 (some FieldType.int) (sd_bp pl_66) B_66_0 0 := ⟨1, ok_aload_n (q := 0) (by decide +kernel) rfl, ⟨4, ok_getf (by decide +kernel) fo_80, ⟨7, ok_getsK (by decide +kernel) (by decide) rfl g_709, ⟨10, ok_acmp (off := 13) (by decide +kernel) (by decide), ⟨11, ok_aload_n (q := 0) (by decide +kernel) rfl, ⟨14, ok_getf (by decide +kernel) fo_80, ⟨17, ok_getsK (by decide +kernel) (by decide) rfl g_710, ⟨20, ok_acmp (off := 16) (by decide +kernel) (by decide), ⟨20, ok_fall rfl, trivial⟩⟩⟩⟩⟩⟩⟩⟩⟩
set_option maxRecDepth 100000 in
theorem al_66_1 : sd_Al mi_l "ConeForms$Bend" "slope" prog_2_method_5_code 2 (some FieldType.int) (sd_bp pl_66) B_66_1 20 := ⟨21, ok_aload_n (q := 0) (by decide +kernel) rfl, ⟨24, ok_getf (by decide +kernel) fo_81, ⟨27, ok_getf (by decide +kernel) fo_98, ⟨30, ok_calls (by decide +kernel) (by rfl) c_71, ⟨33, ok_goto (off := 4) (by decide +kernel) (by decide), trivial⟩⟩⟩⟩⟩
set_option maxRecDepth 100000 in
theorem al_66_2 : sd_Al mi_l "ConeForms$Bend" "slope" prog_2_method_5_code 2 (some FieldType.int) (sd_bp pl_66) B_66_2 33 := ⟨34, ok_iconst (by decide +kernel), ⟨34, ok_fall rfl, trivial⟩⟩
set_option maxRecDepth 100000 in
theorem al_66_3 : sd_Al mi_l "ConeForms$Bend" "slope" prog_2_method_5_code 2 (some FieldType.int) (sd_bp pl_66) B_66_3 34 := ⟨35, ok_ireti (by decide +kernel) rfl, trivial⟩
set_option maxRecDepth 100000 in
theorem gd_66 : sd_Good mi_l ⟨"ConeForms$Bend", "slope", "(I)I"⟩ prog_2_method_5_code 2 (some FieldType.int) cd_66 :=
  ⟨by decide +kernel, sd_bp pl_66, rfl, fun k => sd_Als.at (Bs := [B_66_0, B_66_1, B_66_2, B_66_3]) (ps := pl_66) ⟨_, _, rfl, al_66_0, ⟨_, _, rfl, al_66_1, ⟨_, _, rfl, al_66_2, ⟨_, _, rfl, al_66_3, trivial⟩⟩⟩⟩ k.toNat⟩
def pl_67 : List Nat := [0, 10, 20, 21]
set_option maxRecDepth 100000 in
theorem al_67_0 : sd_Al mi_l "ConeForms" "upOrDown" prog_1_method_2_code 1 (some FieldType.int) (sd_bp pl_67) B_67_0 0 := ⟨1, ok_iload_n (q := 0) (by decide +kernel) rfl, ⟨2, ok_iconst (by decide +kernel), ⟨3, ok_iand (by decide +kernel), ⟨6, ok_if (off := 7) (by decide +kernel) (by decide), ⟨7, ok_iconst (by decide +kernel), ⟨10, ok_goto (off := 14) (by decide +kernel) (by decide), trivial⟩⟩⟩⟩⟩⟩
set_option maxRecDepth 100000 in
theorem al_67_1 : sd_Al mi_l "ConeForms" "upOrDown" prog_1_method_2_code 1 (some FieldType.int) (sd_bp pl_67) B_67_1 10 := ⟨11, ok_iload_n (q := 0) (by decide +kernel) rfl, ⟨12, ok_iconst (by decide +kernel), ⟨13, ok_iand (by decide +kernel), ⟨16, ok_if (off := 7) (by decide +kernel) (by decide), ⟨17, ok_iconst (by decide +kernel), ⟨20, ok_goto (off := 4) (by decide +kernel) (by decide), trivial⟩⟩⟩⟩⟩⟩
set_option maxRecDepth 100000 in
theorem al_67_2 : sd_Al mi_l "ConeForms" "upOrDown" prog_1_method_2_code 1 (some FieldType.int) (sd_bp pl_67) B_67_2 20 := ⟨21, ok_iconst (by decide +kernel), ⟨21, ok_fall rfl, trivial⟩⟩
set_option maxRecDepth 100000 in
theorem al_67_3 : sd_Al mi_l "ConeForms" "upOrDown" prog_1_method_2_code 1 (some FieldType.int) (sd_bp pl_67) B_67_3 21 := ⟨22, ok_ireti (by decide +kernel) rfl, trivial⟩
set_option maxRecDepth 100000 in
theorem gd_67 : sd_Good mi_l ⟨"ConeForms", "upOrDown", "(I)I"⟩ prog_1_method_2_code 1 (some FieldType.int) cd_67 :=
  ⟨by decide +kernel, sd_bp pl_67, rfl, fun k => sd_Als.at (Bs := [B_67_0, B_67_1, B_67_2, B_67_3]) (ps := pl_67) ⟨_, _, rfl, al_67_0, ⟨_, _, rfl, al_67_1, ⟨_, _, rfl, al_67_2, ⟨_, _, rfl, al_67_3, trivial⟩⟩⟩⟩ k.toNat⟩
def pl_68 : List Nat := [0]
set_option maxRecDepth 100000 in
theorem al_68_0 : sd_Al mi_l "ConeForms$Leaf" "slope" prog_4_method_5_code 2 (some FieldType.int) (sd_bp pl_68) B_68_0 0 := ⟨1, ok_iconst (by decide +kernel), ⟨2, ok_ireti (by decide +kernel) rfl, trivial⟩⟩
set_option maxRecDepth 100000 in
theorem gd_68 : sd_Good mi_l ⟨"ConeForms$Leaf", "slope", "(I)I"⟩ prog_4_method_5_code 2 (some FieldType.int) cd_68 :=
  ⟨by decide +kernel, sd_bp pl_68, rfl, fun k => sd_Als.at (Bs := [B_68_0]) (ps := pl_68) ⟨_, _, rfl, al_68_0, trivial⟩ k.toNat⟩
def pl_69 : List Nat := [0, 25, 29, 30]
set_option maxRecDepth 100000 in
theorem al_69_0 : sd_Al mi_l "ConeForms$Linear" "slope" prog_5_method_5_code 2 (some FieldType.int) (sd_bp pl_69) B_69_0 0 := ⟨1, ok_aload_n (q := 0) (by decide +kernel) rfl, ⟨4, ok_getf (by decide +kernel) fo_99, ⟨7, ok_getsK (by decide +kernel) (by decide) rfl g_720, ⟨10, ok_acmp (off := 18) (by decide +kernel) (by decide), ⟨11, ok_aload_n (q := 0) (by decide +kernel) rfl, ⟨14, ok_getf (by decide +kernel) fo_99, ⟨17, ok_getsK (by decide +kernel) (by decide) rfl g_671, ⟨20, ok_acmp (off := 12) (by decide +kernel) (by decide), ⟨21, ok_iload_n (q := 1) (by decide +kernel) rfl, ⟨22, ok_iconst (by decide +kernel), ⟨25, ok_icmp (off := 7) (by decide +kernel) (by decide), ⟨25, ok_fall rfl, trivial⟩⟩⟩⟩⟩⟩⟩⟩⟩⟩⟩⟩
set_option maxRecDepth 100000 in
theorem al_69_1 : sd_Al mi_l "ConeForms$Linear" "slope" prog_5_method_5_code 2 (some FieldType.int) (sd_bp pl_69) B_69_1 25 := ⟨26, ok_iconst (by decide +kernel), ⟨29, ok_goto (off := 4) (by decide +kernel) (by decide), trivial⟩⟩
set_option maxRecDepth 100000 in
theorem al_69_2 : sd_Al mi_l "ConeForms$Linear" "slope" prog_5_method_5_code 2 (some FieldType.int) (sd_bp pl_69) B_69_2 29 := ⟨30, ok_iconst (by decide +kernel), ⟨30, ok_fall rfl, trivial⟩⟩
set_option maxRecDepth 100000 in
theorem al_69_3 : sd_Al mi_l "ConeForms$Linear" "slope" prog_5_method_5_code 2 (some FieldType.int) (sd_bp pl_69) B_69_3 30 := ⟨31, ok_ireti (by decide +kernel) rfl, trivial⟩
set_option maxRecDepth 100000 in
theorem gd_69 : sd_Good mi_l ⟨"ConeForms$Linear", "slope", "(I)I"⟩ prog_5_method_5_code 2 (some FieldType.int) cd_69 :=
  ⟨by decide +kernel, sd_bp pl_69, rfl, fun k => sd_Als.at (Bs := [B_69_0, B_69_1, B_69_2, B_69_3]) (ps := pl_69) ⟨_, _, rfl, al_69_0, ⟨_, _, rfl, al_69_1, ⟨_, _, rfl, al_69_2, ⟨_, _, rfl, al_69_3, trivial⟩⟩⟩⟩ k.toNat⟩
def pl_70 : List Nat := [0, 15, 22]
set_option maxRecDepth 100000 in
theorem al_70_0 : sd_Al mi_l "ConeForms$Product" "slope" prog_7_method_5_code 2 (some FieldType.int) (sd_bp pl_70) B_70_0 0 := ⟨1, ok_iload_n (q := 1) (by decide +kernel) rfl, ⟨2, ok_iconst (by decide +kernel), ⟨5, ok_icmp (off := 13) (by decide +kernel) (by decide), ⟨6, ok_aload_n (q := 0) (by decide +kernel) rfl, ⟨9, ok_getf (by decide +kernel) fo_93, ⟨12, ok_getf (by decide +kernel) fo_101, ⟨15, ok_goto (off := 10) (by decide +kernel) (by decide), trivial⟩⟩⟩⟩⟩⟩⟩
set_option maxRecDepth 100000 in
theorem al_70_1 : sd_Al mi_l "ConeForms$Product" "slope" prog_7_method_5_code 2 (some FieldType.int) (sd_bp pl_70) B_70_1 15 := ⟨16, ok_aload_n (q := 0) (by decide +kernel) rfl, ⟨19, ok_getf (by decide +kernel) fo_91, ⟨22, ok_getf (by decide +kernel) fo_101, ⟨22, ok_fall rfl, trivial⟩⟩⟩⟩
set_option maxRecDepth 100000 in
theorem al_70_2 : sd_Al mi_l "ConeForms$Product" "slope" prog_7_method_5_code 2 (some FieldType.int) (sd_bp pl_70) B_70_2 22 := ⟨25, ok_calls (by decide +kernel) (by rfl) c_72, ⟨26, ok_ireti (by decide +kernel) rfl, trivial⟩⟩
set_option maxRecDepth 100000 in
theorem gd_70 : sd_Good mi_l ⟨"ConeForms$Product", "slope", "(I)I"⟩ prog_7_method_5_code 2 (some FieldType.int) cd_70 :=
  ⟨by decide +kernel, sd_bp pl_70, rfl, fun k => sd_Als.at (Bs := [B_70_0, B_70_1, B_70_2]) (ps := pl_70) ⟨_, _, rfl, al_70_0, ⟨_, _, rfl, al_70_1, ⟨_, _, rfl, al_70_2, trivial⟩⟩⟩ k.toNat⟩
def pl_71 : List Nat := [0, 24, 25]
set_option maxRecDepth 100000 in
theorem al_71_0 : sd_Al mi_l "ConeForms$Product" "shape" prog_7_method_6_code 1 (some FieldType.int) (sd_bp pl_71) B_71_0 0 := ⟨1, ok_aload_n (q := 0) (by decide +kernel) rfl, ⟨4, ok_getf (by decide +kernel) fo_91, ⟨7, ok_getf (by decide +kernel) fo_111, ⟨10, ok_if (off := 17) (by decide +kernel) (by decide), ⟨11, ok_aload_n (q := 0) (by decide +kernel) rfl, ⟨14, ok_getf (by decide +kernel) fo_93, ⟨17, ok_getf (by decide +kernel) fo_111, ⟨20, ok_if (off := 7) (by decide +kernel) (by decide), ⟨21, ok_iconst (by decide +kernel), ⟨24, ok_goto (off := 4) (by decide +kernel) (by decide), trivial⟩⟩⟩⟩⟩⟩⟩⟩⟩⟩
set_option maxRecDepth 100000 in
theorem al_71_1 : sd_Al mi_l "ConeForms$Product" "shape" prog_7_method_6_code 1 (some FieldType.int) (sd_bp pl_71) B_71_1 24 := ⟨25, ok_iconst (by decide +kernel), ⟨25, ok_fall rfl, trivial⟩⟩
set_option maxRecDepth 100000 in
theorem al_71_2 : sd_Al mi_l "ConeForms$Product" "shape" prog_7_method_6_code 1 (some FieldType.int) (sd_bp pl_71) B_71_2 25 := ⟨26, ok_ireti (by decide +kernel) rfl, trivial⟩
set_option maxRecDepth 100000 in
theorem gd_71 : sd_Good mi_l ⟨"ConeForms$Product", "shape", "()I"⟩ prog_7_method_6_code 1 (some FieldType.int) cd_71 :=
  ⟨by decide +kernel, sd_bp pl_71, rfl, fun k => sd_Als.at (Bs := [B_71_0, B_71_1, B_71_2]) (ps := pl_71) ⟨_, _, rfl, al_71_0, ⟨_, _, rfl, al_71_1, ⟨_, _, rfl, al_71_2, trivial⟩⟩⟩ k.toNat⟩
def pl_72 : List Nat := [0]
set_option maxRecDepth 100000 in
theorem al_72_0 : sd_Al mi_l "ConeForms$Node" "shape" prog_6_method_8_code 1 (some FieldType.int) (sd_bp pl_72) B_72_0 0 := ⟨1, ok_aload_n (q := 0) (by decide +kernel) rfl, ⟨4, ok_getf (by decide +kernel) fo_102, ⟨7, ok_getf (by decide +kernel) fo_103, ⟨8, ok_ireti (by decide +kernel) rfl, trivial⟩⟩⟩⟩
set_option maxRecDepth 100000 in
theorem gd_72 : sd_Good mi_l ⟨"ConeForms$Node", "shape", "()I"⟩ prog_6_method_8_code 1 (some FieldType.int) cd_72 :=
  ⟨by decide +kernel, sd_bp pl_72, rfl, fun k => sd_Als.at (Bs := [B_72_0]) (ps := pl_72) ⟨_, _, rfl, al_72_0, trivial⟩ k.toNat⟩
def pl_73 : List Nat := [0, 36, 54, 72, 83, 99]
set_option maxRecDepth 100000 in
theorem al_73_0 : sd_Al mi_l "ConeForms$Bend" "compute" prog_2_method_3_code 1 (some FieldType.int) (sd_bp pl_73) B_73_0 0 := ⟨1, ok_aload_n (q := 0) (by decide +kernel) rfl, ⟨4, ok_getf (by decide +kernel) fo_80, ⟨7, ok_callv (by decide) (by decide +kernel) c_58, ⟨36, ok_tsw (d' := 92) (offs := #[29, 47, 65, 76]) (len := 29) (by decide +kernel) (by decide) (by decide) (by decide) (by decide) (by decide), trivial⟩⟩⟩⟩
set_option maxRecDepth 100000 in
theorem al_73_1 : sd_Al mi_l "ConeForms$Bend" "compute" prog_2_method_3_code 1 (some FieldType.int) (sd_bp pl_73) B_73_1 36 := ⟨37, ok_aload_n (q := 0) (by decide +kernel) rfl, ⟨40, ok_getf (by decide +kernel) fo_81, ⟨43, ok_getf (by decide +kernel) fo_112, ⟨44, ok_aload_n (q := 0) (by decide +kernel) rfl, ⟨47, ok_getf (by decide +kernel) fo_83, ⟨50, ok_getf (by decide +kernel) fo_112, ⟨53, ok_calls (by decide +kernel) (by rfl) c_59, ⟨54, ok_ireti (by decide +kernel) rfl, trivial⟩⟩⟩⟩⟩⟩⟩⟩
set_option maxRecDepth 100000 in
theorem al_73_2 : sd_Al mi_l "ConeForms$Bend" "compute" prog_2_method_3_code 1 (some FieldType.int) (sd_bp pl_73) B_73_2 54 := ⟨55, ok_aload_n (q := 0) (by decide +kernel) rfl, ⟨58, ok_getf (by decide +kernel) fo_81, ⟨61, ok_getf (by decide +kernel) fo_112, ⟨62, ok_aload_n (q := 0) (by decide +kernel) rfl, ⟨65, ok_getf (by decide +kernel) fo_83, ⟨68, ok_getf (by decide +kernel) fo_112, ⟨71, ok_calls (by decide +kernel) (by rfl) c_73, ⟨72, ok_ireti (by decide +kernel) rfl, trivial⟩⟩⟩⟩⟩⟩⟩⟩
set_option maxRecDepth 100000 in
theorem al_73_3 : sd_Al mi_l "ConeForms$Bend" "compute" prog_2_method_3_code 1 (some FieldType.int) (sd_bp pl_73) B_73_3 72 := ⟨73, ok_aload_n (q := 0) (by decide +kernel) rfl, ⟨76, ok_getf (by decide +kernel) fo_81, ⟨79, ok_getf (by decide +kernel) fo_112, ⟨82, ok_calls (by decide +kernel) (by rfl) c_74, ⟨83, ok_ireti (by decide +kernel) rfl, trivial⟩⟩⟩⟩⟩
set_option maxRecDepth 100000 in
theorem al_73_4 : sd_Al mi_l "ConeForms$Bend" "compute" prog_2_method_3_code 1 (some FieldType.int) (sd_bp pl_73) B_73_4 83 := ⟨84, ok_aload_n (q := 0) (by decide +kernel) rfl, ⟨87, ok_getf (by decide +kernel) fo_81, ⟨90, ok_getf (by decide +kernel) fo_112, ⟨91, ok_aload_n (q := 0) (by decide +kernel) rfl, ⟨94, ok_getf (by decide +kernel) fo_81, ⟨97, ok_getf (by decide +kernel) fo_112, ⟨98, ok_imul (by decide +kernel), ⟨99, ok_ireti (by decide +kernel) rfl, trivial⟩⟩⟩⟩⟩⟩⟩⟩
set_option maxRecDepth 100000 in
theorem al_73_5 : sd_Al mi_l "ConeForms$Bend" "compute" prog_2_method_3_code 1 (some FieldType.int) (sd_bp pl_73) B_73_5 99 := ⟨100, ok_aload_n (q := 0) (by decide +kernel) rfl, ⟨103, ok_getf (by decide +kernel) fo_81, ⟨106, ok_getf (by decide +kernel) fo_112, ⟨107, ok_aload_n (q := 0) (by decide +kernel) rfl, ⟨110, ok_getf (by decide +kernel) fo_83, ⟨113, ok_getf (by decide +kernel) fo_112, ⟨114, ok_iadd (by decide +kernel), ⟨115, ok_aload_n (q := 0) (by decide +kernel) rfl, ⟨118, ok_getf (by decide +kernel) fo_84, ⟨121, ok_getf (by decide +kernel) fo_112, ⟨122, ok_iadd (by decide +kernel), ⟨123, ok_aload_n (q := 0) (by decide +kernel) rfl, ⟨126, ok_getf (by decide +kernel) fo_81, ⟨129, ok_getf (by decide +kernel) fo_112, ⟨130, ok_aload_n (q := 0) (by decide +kernel) rfl, ⟨133, ok_getf (by decide +kernel) fo_83, ⟨136, ok_getf (by decide +kernel) fo_112, ⟨137, ok_aload_n (q := 0) (by decide +kernel) rfl, ⟨140, ok_getf (by decide +kernel) fo_84, ⟨143, ok_getf (by decide +kernel) fo_112, ⟨146, ok_calls (by decide +kernel) (by rfl) c_73, ⟨149, ok_calls (by decide +kernel) (by rfl) c_73, ⟨150, ok_isub (by decide +kernel), ⟨151, ok_ireti (by decide +kernel) rfl, trivial⟩⟩⟩⟩⟩⟩⟩⟩⟩⟩⟩⟩⟩⟩⟩⟩⟩⟩⟩⟩⟩⟩⟩⟩
set_option maxRecDepth 100000 in
theorem gd_73 : sd_Good mi_l ⟨"ConeForms$Bend", "compute", "()I"⟩ prog_2_method_3_code 1 (some FieldType.int) cd_73 :=
  ⟨by decide +kernel, sd_bp pl_73, rfl, fun k => sd_Als.at (Bs := [B_73_0, B_73_1, B_73_2, B_73_3, B_73_4, B_73_5]) (ps := pl_73) ⟨_, _, rfl, al_73_0, ⟨_, _, rfl, al_73_1, ⟨_, _, rfl, al_73_2, ⟨_, _, rfl, al_73_3, ⟨_, _, rfl, al_73_4, ⟨_, _, rfl, al_73_5, trivial⟩⟩⟩⟩⟩⟩ k.toNat⟩
def pl_74 : List Nat := [0, 9, 10]
set_option maxRecDepth 100000 in
theorem al_74_0 : sd_Al mi_l "java/lang/Math" "abs" prog_18_method_59_code 1 (some FieldType.int) (sd_bp pl_74) B_74_0 0 := ⟨1, ok_iload_n (q := 0) (by decide +kernel) rfl, ⟨4, ok_if (off := 8) (by decide +kernel) (by decide), ⟨5, ok_iload_n (q := 0) (by decide +kernel) rfl, ⟨6, ok_ineg (by decide +kernel), ⟨9, ok_goto (off := 4) (by decide +kernel) (by decide), trivial⟩⟩⟩⟩⟩
set_option maxRecDepth 100000 in
theorem al_74_1 : sd_Al mi_l "java/lang/Math" "abs" prog_18_method_59_code 1 (some FieldType.int) (sd_bp pl_74) B_74_1 9 := ⟨10, ok_iload_n (q := 0) (by decide +kernel) rfl, ⟨10, ok_fall rfl, trivial⟩⟩
set_option maxRecDepth 100000 in
theorem al_74_2 : sd_Al mi_l "java/lang/Math" "abs" prog_18_method_59_code 1 (some FieldType.int) (sd_bp pl_74) B_74_2 10 := ⟨11, ok_ireti (by decide +kernel) rfl, trivial⟩
set_option maxRecDepth 100000 in
theorem gd_74 : sd_Good mi_l ⟨"java/lang/Math", "abs", "(I)I"⟩ prog_18_method_59_code 1 (some FieldType.int) cd_74 :=
  ⟨by decide +kernel, sd_bp pl_74, rfl, fun k => sd_Als.at (Bs := [B_74_0, B_74_1, B_74_2]) (ps := pl_74) ⟨_, _, rfl, al_74_0, ⟨_, _, rfl, al_74_1, ⟨_, _, rfl, al_74_2, trivial⟩⟩⟩ k.toNat⟩
def pl_75 : List Nat := [0]
set_option maxRecDepth 100000 in
theorem al_75_0 : sd_Al mi_l "ConeForms$Leaf" "compute" prog_4_method_3_code 1 (some FieldType.int) (sd_bp pl_75) B_75_0 0 := ⟨1, ok_aload_n (q := 0) (by decide +kernel) rfl, ⟨4, ok_getf (by decide +kernel) fo_113, ⟨5, ok_ireti (by decide +kernel) rfl, trivial⟩⟩⟩
set_option maxRecDepth 100000 in
theorem gd_75 : sd_Good mi_l ⟨"ConeForms$Leaf", "compute", "()I"⟩ prog_4_method_3_code 1 (some FieldType.int) cd_75 :=
  ⟨by decide +kernel, sd_bp pl_75, rfl, fun k => sd_Als.at (Bs := [B_75_0]) (ps := pl_75) ⟨_, _, rfl, al_75_0, trivial⟩ k.toNat⟩
def pl_76 : List Nat := [0, 28, 56, 64]
set_option maxRecDepth 100000 in
theorem al_76_0 : sd_Al mi_l "ConeForms$Linear" "compute" prog_5_method_3_code 1 (some FieldType.int) (sd_bp pl_76) B_76_0 0 := ⟨1, ok_aload_n (q := 0) (by decide +kernel) rfl, ⟨4, ok_getf (by decide +kernel) fo_99, ⟨7, ok_getsK (by decide +kernel) (by decide) rfl g_670, ⟨10, ok_acmp (off := 21) (by decide +kernel) (by decide), ⟨11, ok_aload_n (q := 0) (by decide +kernel) rfl, ⟨14, ok_getf (by decide +kernel) fo_89, ⟨17, ok_getf (by decide +kernel) fo_114, ⟨18, ok_aload_n (q := 0) (by decide +kernel) rfl, ⟨21, ok_getf (by decide +kernel) fo_88, ⟨24, ok_getf (by decide +kernel) fo_114, ⟨25, ok_iadd (by decide +kernel), ⟨28, ok_goto (off := 39) (by decide +kernel) (by decide), trivial⟩⟩⟩⟩⟩⟩⟩⟩⟩⟩⟩⟩
set_option maxRecDepth 100000 in
theorem al_76_1 : sd_Al mi_l "ConeForms$Linear" "compute" prog_5_method_3_code 1 (some FieldType.int) (sd_bp pl_76) B_76_1 28 := ⟨29, ok_aload_n (q := 0) (by decide +kernel) rfl, ⟨32, ok_getf (by decide +kernel) fo_99, ⟨35, ok_getsK (by decide +kernel) (by decide) rfl g_671, ⟨38, ok_acmp (off := 21) (by decide +kernel) (by decide), ⟨39, ok_aload_n (q := 0) (by decide +kernel) rfl, ⟨42, ok_getf (by decide +kernel) fo_89, ⟨45, ok_getf (by decide +kernel) fo_114, ⟨46, ok_aload_n (q := 0) (by decide +kernel) rfl, ⟨49, ok_getf (by decide +kernel) fo_88, ⟨52, ok_getf (by decide +kernel) fo_114, ⟨53, ok_isub (by decide +kernel), ⟨56, ok_goto (off := 11) (by decide +kernel) (by decide), trivial⟩⟩⟩⟩⟩⟩⟩⟩⟩⟩⟩⟩
set_option maxRecDepth 100000 in
theorem al_76_2 : sd_Al mi_l "ConeForms$Linear" "compute" prog_5_method_3_code 1 (some FieldType.int) (sd_bp pl_76) B_76_2 56 := ⟨57, ok_aload_n (q := 0) (by decide +kernel) rfl, ⟨60, ok_getf (by decide +kernel) fo_89, ⟨63, ok_getf (by decide +kernel) fo_114, ⟨64, ok_ineg (by decide +kernel), ⟨64, ok_fall rfl, trivial⟩⟩⟩⟩⟩
set_option maxRecDepth 100000 in
theorem al_76_3 : sd_Al mi_l "ConeForms$Linear" "compute" prog_5_method_3_code 1 (some FieldType.int) (sd_bp pl_76) B_76_3 64 := ⟨65, ok_ireti (by decide +kernel) rfl, trivial⟩
set_option maxRecDepth 100000 in
theorem gd_76 : sd_Good mi_l ⟨"ConeForms$Linear", "compute", "()I"⟩ prog_5_method_3_code 1 (some FieldType.int) cd_76 :=
  ⟨by decide +kernel, sd_bp pl_76, rfl, fun k => sd_Als.at (Bs := [B_76_0, B_76_1, B_76_2, B_76_3]) (ps := pl_76) ⟨_, _, rfl, al_76_0, ⟨_, _, rfl, al_76_1, ⟨_, _, rfl, al_76_2, ⟨_, _, rfl, al_76_3, trivial⟩⟩⟩⟩ k.toNat⟩
def pl_77 : List Nat := [0]
set_option maxRecDepth 100000 in
theorem al_77_0 : sd_Al mi_l "ConeForms$Product" "compute" prog_7_method_3_code 1 (some FieldType.int) (sd_bp pl_77) B_77_0 0 := ⟨1, ok_aload_n (q := 0) (by decide +kernel) rfl, ⟨4, ok_getf (by decide +kernel) fo_91, ⟨7, ok_getf (by decide +kernel) fo_115, ⟨8, ok_aload_n (q := 0) (by decide +kernel) rfl, ⟨11, ok_getf (by decide +kernel) fo_93, ⟨14, ok_getf (by decide +kernel) fo_115, ⟨15, ok_imul (by decide +kernel), ⟨16, ok_ireti (by decide +kernel) rfl, trivial⟩⟩⟩⟩⟩⟩⟩⟩
set_option maxRecDepth 100000 in
theorem gd_77 : sd_Good mi_l ⟨"ConeForms$Product", "compute", "()I"⟩ prog_7_method_3_code 1 (some FieldType.int) cd_77 :=
  ⟨by decide +kernel, sd_bp pl_77, rfl, fun k => sd_Als.at (Bs := [B_77_0]) (ps := pl_77) ⟨_, _, rfl, al_77_0, trivial⟩ k.toNat⟩
def pl_78 : List Nat := [0]
set_option maxRecDepth 100000 in
theorem al_78_0 : sd_Al mi_l "java/util/ArrayList" "add" prog_26_method_25_code 2 (some FieldType.boolean) (sd_bp pl_78) B_78_0 0 := ⟨1, ok_aload_n (q := 0) (by decide +kernel) rfl, ⟨2, ok_dup (by decide +kernel), ⟨5, ok_getf (by decide +kernel) fo_116, ⟨6, ok_iconst (by decide +kernel), ⟨7, ok_iadd (by decide +kernel), ⟨10, ok_putf (by decide +kernel) fp_117, ⟨11, ok_aload_n (q := 0) (by decide +kernel) rfl, ⟨12, ok_aload_n (q := 1) (by decide +kernel) rfl, ⟨13, ok_aload_n (q := 0) (by decide +kernel) rfl, ⟨16, ok_getf (by decide +kernel) fo_67, ⟨17, ok_aload_n (q := 0) (by decide +kernel) rfl, ⟨20, ok_getf (by decide +kernel) fo_35, ⟨23, ok_callv (by decide) (by decide +kernel) c_75, ⟨24, ok_iconst (by decide +kernel), ⟨25, ok_iretz (by decide +kernel) rfl, trivial⟩⟩⟩⟩⟩⟩⟩⟩⟩⟩⟩⟩⟩⟩⟩
set_option maxRecDepth 100000 in
theorem gd_78 : sd_Good mi_l ⟨"java/util/ArrayList", "add", "(Ljava/lang/Object;)Z"⟩ prog_26_method_25_code 2 (some FieldType.boolean) cd_78 :=
  ⟨by decide +kernel, sd_bp pl_78, rfl, fun k => sd_Als.at (Bs := [B_78_0]) (ps := pl_78) ⟨_, _, rfl, al_78_0, trivial⟩ k.toNat⟩
def pl_79 : List Nat := [0, 11]
set_option maxRecDepth 100000 in
theorem al_79_0 : sd_Al mi_l "java/util/ArrayList" "add" prog_26_method_24_code 4 none (sd_bp pl_79) B_79_0 0 := ⟨1, ok_iload_n (q := 3) (by decide +kernel) rfl, ⟨2, ok_aload_n (q := 2) (by decide +kernel) rfl, ⟨3, ok_alen (by decide +kernel), ⟨6, ok_icmp (off := 8) (by decide +kernel) (by decide), ⟨7, ok_aload_n (q := 0) (by decide +kernel) rfl, ⟨10, ok_callv (by decide) (by decide +kernel) c_76, ⟨11, ok_astore_n (q := 2) (by decide +kernel) rfl, ⟨11, ok_fall rfl, trivial⟩⟩⟩⟩⟩⟩⟩⟩
set_option maxRecDepth 100000 in
theorem al_79_1 : sd_Al mi_l "java/util/ArrayList" "add" prog_26_method_24_code 4 none (sd_bp pl_79) B_79_1 11 := ⟨12, ok_aload_n (q := 2) (by decide +kernel) rfl, ⟨13, ok_iload_n (q := 3) (by decide +kernel) rfl, ⟨14, ok_aload_n (q := 1) (by decide +kernel) rfl, ⟨15, ok_aastore (by decide +kernel), ⟨16, ok_aload_n (q := 0) (by decide +kernel) rfl, ⟨17, ok_iload_n (q := 3) (by decide +kernel) rfl, ⟨18, ok_iconst (by decide +kernel), ⟨19, ok_iadd (by decide +kernel), ⟨22, ok_putf (by decide +kernel) fp_118, ⟨23, ok_vret (by decide +kernel) rfl, trivial⟩⟩⟩⟩⟩⟩⟩⟩⟩⟩
set_option maxRecDepth 100000 in
theorem gd_79 : sd_Good mi_l ⟨"java/util/ArrayList", "add", "(Ljava/lang/Object;[Ljava/lang/Object;I)V"⟩ prog_26_method_24_code 4 none cd_79 :=
  ⟨by decide +kernel, sd_bp pl_79, rfl, fun k => sd_Als.at (Bs := [B_79_0, B_79_1]) (ps := pl_79) ⟨_, _, rfl, al_79_0, ⟨_, _, rfl, al_79_1, trivial⟩⟩ k.toNat⟩
def pl_80 : List Nat := [0]
set_option maxRecDepth 100000 in
theorem al_80_0 : sd_Al mi_l "java/util/ArrayList" "grow" prog_26_method_7_code 1 (some (FieldType.array (FieldType.object "java/lang/Object"))) (sd_bp pl_80) B_80_0 0 := ⟨1, ok_aload_n (q := 0) (by decide +kernel) rfl, ⟨2, ok_aload_n (q := 0) (by decide +kernel) rfl, ⟨5, ok_getf (by decide +kernel) fo_35, ⟨6, ok_iconst (by decide +kernel), ⟨7, ok_iadd (by decide +kernel), ⟨10, ok_callv (by decide) (by decide +kernel) c_77, ⟨11, ok_aret (by decide +kernel) (Or.inr ⟨_, rfl⟩), trivial⟩⟩⟩⟩⟩⟩⟩
set_option maxRecDepth 100000 in
theorem gd_80 : sd_Good mi_l ⟨"java/util/ArrayList", "grow", "()[Ljava/lang/Object;"⟩ prog_26_method_7_code 1 (some (FieldType.array (FieldType.object "java/lang/Object"))) cd_80 :=
  ⟨by decide +kernel, sd_bp pl_80, rfl, fun k => sd_Als.at (Bs := [B_80_0]) (ps := pl_80) ⟨_, _, rfl, al_80_0, trivial⟩ k.toNat⟩
def pl_81 : List Nat := [0, 20, 45]
set_option maxRecDepth 100000 in
theorem al_81_0 : sd_Al mi_l "java/util/ArrayList" "grow" prog_26_method_6_code 4 (some (FieldType.array (FieldType.object "java/lang/Object"))) (sd_bp pl_81) B_81_0 0 := ⟨1, ok_aload_n (q := 0) (by decide +kernel) rfl, ⟨4, ok_getf (by decide +kernel) fo_67, ⟨5, ok_alen (by decide +kernel), ⟨6, ok_istore_n (q := 2) (by decide +kernel) rfl, ⟨7, ok_iload_n (q := 2) (by decide +kernel) rfl, ⟨10, ok_if (off := 13) (by decide +kernel) (by decide), ⟨11, ok_aload_n (q := 0) (by decide +kernel) rfl, ⟨14, ok_getf (by decide +kernel) fo_67, ⟨17, ok_getsE (by decide +kernel) g_122, ⟨20, ok_acmp (off := 28) (by decide +kernel) (by decide), ⟨20, ok_fall rfl, trivial⟩⟩⟩⟩⟩⟩⟩⟩⟩⟩⟩
set_option maxRecDepth 100000 in
theorem al_81_1 : sd_Al mi_l "java/util/ArrayList" "grow" prog_26_method_6_code 4 (some (FieldType.array (FieldType.object "java/lang/Object"))) (sd_bp pl_81) B_81_1 20 := ⟨21, ok_iload_n (q := 2) (by decide +kernel) rfl, ⟨22, ok_iload_n (q := 1) (by decide +kernel) rfl, ⟨23, ok_iload_n (q := 2) (by decide +kernel) rfl, ⟨24, ok_isub (by decide +kernel), ⟨25, ok_iload_n (q := 2) (by decide +kernel) rfl, ⟨26, ok_iconst (by decide +kernel), ⟨27, ok_ishr (by decide +kernel), ⟨30, ok_calls (by decide +kernel) (by rfl) c_78, ⟨31, ok_istore_n (q := 3) (by decide +kernel) rfl, ⟨32, ok_aload_n (q := 0) (by decide +kernel) rfl, ⟨33, ok_aload_n (q := 0) (by decide +kernel) rfl, ⟨36, ok_getf (by decide +kernel) fo_67, ⟨37, ok_iload_n (q := 3) (by decide +kernel) rfl, ⟨40, ok_calls (by decide +kernel) (by rfl) c_79, ⟨41, ok_dup_x1 (by decide +kernel), ⟨44, ok_putf (by decide +kernel) fp_119, ⟨45, ok_aret (by decide +kernel) (Or.inr ⟨_, rfl⟩), trivial⟩⟩⟩⟩⟩⟩⟩⟩⟩⟩⟩⟩⟩⟩⟩⟩⟩
set_option maxRecDepth 100000 in
theorem al_81_2 : sd_Al mi_l "java/util/ArrayList" "grow" prog_26_method_6_code 4 (some (FieldType.array (FieldType.object "java/lang/Object"))) (sd_bp pl_81) B_81_2 45 := ⟨46, ok_aload_n (q := 0) (by decide +kernel) rfl, ⟨48, ok_bipush (n2 := 10) (by decide +kernel) (by decide), ⟨49, ok_iload_n (q := 1) (by decide +kernel) rfl, ⟨52, ok_calls (by decide +kernel) (by rfl) c_80, ⟨55, ok_newq (Cn := "java/lang/Object") (by decide +kernel) (by decide) rfl g_798, ⟨56, ok_dup_x1 (by decide +kernel), ⟨59, ok_putf (by decide +kernel) fp_119, ⟨60, ok_aret (by decide +kernel) (Or.inr ⟨_, rfl⟩), trivial⟩⟩⟩⟩⟩⟩⟩⟩
set_option maxRecDepth 100000 in
theorem gd_81 : sd_Good mi_l ⟨"java/util/ArrayList", "grow", "(I)[Ljava/lang/Object;"⟩ prog_26_method_6_code 4 (some (FieldType.array (FieldType.object "java/lang/Object"))) cd_81 :=
  ⟨by decide +kernel, sd_bp pl_81, rfl, fun k => sd_Als.at (Bs := [B_81_0, B_81_1, B_81_2]) (ps := pl_81) ⟨_, _, rfl, al_81_0, ⟨_, _, rfl, al_81_1, ⟨_, _, rfl, al_81_2, trivial⟩⟩⟩ k.toNat⟩
def pl_82 : List Nat := [0]
set_option maxRecDepth 100000 in
theorem al_82_0 : sd_Al mi_l "java/util/Arrays" "copyOf" prog_28_method_119_code 2 (some (FieldType.array (FieldType.object "java/lang/Object"))) (sd_bp pl_82) B_82_0 0 := ⟨1, ok_aload_n (q := 0) (by decide +kernel) rfl, ⟨2, ok_iload_n (q := 1) (by decide +kernel) rfl, ⟨3, ok_aload_n (q := 0) (by decide +kernel) rfl, ⟨6, ok_getC (by decide +kernel) g_774 k_n1450 g_1449 g_775 g_790, ⟨9, ok_calls (by decide +kernel) (by rfl) c_81, ⟨10, ok_aret (by decide +kernel) (Or.inr ⟨_, rfl⟩), trivial⟩⟩⟩⟩⟩⟩
set_option maxRecDepth 100000 in
theorem gd_82 : sd_Good mi_l ⟨"java/util/Arrays", "copyOf", "([Ljava/lang/Object;I)[Ljava/lang/Object;"⟩ prog_28_method_119_code 2 (some (FieldType.array (FieldType.object "java/lang/Object"))) cd_82 :=
  ⟨by decide +kernel, sd_bp pl_82, rfl, fun k => sd_Als.at (Bs := [B_82_0]) (ps := pl_82) ⟨_, _, rfl, al_82_0, trivial⟩ k.toNat⟩
def pl_83 : List Nat := [0, 13, 24]
set_option maxRecDepth 100000 in
theorem al_83_0 : sd_Al mi_l "java/util/Arrays" "copyOf" prog_28_method_120_code 4 (some (FieldType.array (FieldType.object "java/lang/Object"))) (sd_bp pl_83) B_83_0 0 := ⟨1, ok_aload_n (q := 2) (by decide +kernel) rfl, ⟨3, ok_ldcM (by decide +kernel) g_794, ⟨6, ok_acmp (off := 10) (by decide +kernel) (by decide), ⟨7, ok_iload_n (q := 1) (by decide +kernel) rfl, ⟨10, ok_newq (Cn := "java/lang/Object") (by decide +kernel) (by decide) rfl g_796, ⟨13, ok_goto (off := 14) (by decide +kernel) (by decide), trivial⟩⟩⟩⟩⟩⟩
set_option maxRecDepth 100000 in
theorem al_83_1 : sd_Al mi_l "java/util/Arrays" "copyOf" prog_28_method_120_code 4 (some (FieldType.array (FieldType.object "java/lang/Object"))) (sd_bp pl_83) B_83_1 13 := ⟨14, ok_aload_n (q := 2) (by decide +kernel) rfl, ⟨17, ok_nop, trivial⟩⟩
set_option maxRecDepth 100000 in
theorem al_83_2 : sd_Al mi_l "java/util/Arrays" "copyOf" prog_28_method_120_code 4 (some (FieldType.array (FieldType.object "java/lang/Object"))) (sd_bp pl_83) B_83_2 24 := ⟨25, ok_astore_n (q := 3) (by decide +kernel) rfl, ⟨26, ok_aload_n (q := 0) (by decide +kernel) rfl, ⟨27, ok_iconst (by decide +kernel), ⟨28, ok_aload_n (q := 3) (by decide +kernel) rfl, ⟨29, ok_iconst (by decide +kernel), ⟨30, ok_aload_n (q := 0) (by decide +kernel) rfl, ⟨31, ok_alen (by decide +kernel), ⟨32, ok_iload_n (q := 1) (by decide +kernel) rfl, ⟨35, ok_calls (by decide +kernel) (by rfl) c_18, ⟨38, ok_copy (by decide +kernel) g_258 g_260 g_259 g_15, ⟨39, ok_aload_n (q := 3) (by decide +kernel) rfl, ⟨40, ok_aret (by decide +kernel) (Or.inr ⟨_, rfl⟩), trivial⟩⟩⟩⟩⟩⟩⟩⟩⟩⟩⟩⟩
set_option maxRecDepth 100000 in
theorem gd_83 : sd_Good mi_l ⟨"java/util/Arrays", "copyOf", "([Ljava/lang/Object;ILjava/lang/Class;)[Ljava/lang/Object;"⟩ prog_28_method_120_code 4 (some (FieldType.array (FieldType.object "java/lang/Object"))) cd_83 :=
  ⟨by decide +kernel, sd_bp pl_83, rfl, fun k => sd_Als.at (Bs := [B_83_0, B_83_1, B_83_2]) (ps := pl_83) ⟨_, _, rfl, al_83_0, ⟨_, _, rfl, al_83_1, ⟨_, _, rfl, al_83_2, trivial⟩⟩⟩ k.toNat⟩
def pl_84 : List Nat := [0]
set_option maxRecDepth 100000 in
theorem al_84_0 : sd_Al mi_l "java/util/ArrayList" "remove" prog_26_method_29_code 4 (some (FieldType.object "java/lang/Object")) (sd_bp pl_84) B_84_0 0 := ⟨1, ok_iload_n (q := 1) (by decide +kernel) rfl, ⟨2, ok_aload_n (q := 0) (by decide +kernel) rfl, ⟨5, ok_getf (by decide +kernel) fo_35, ⟨8, ok_calls (by decide +kernel) (by rfl) c_46, ⟨9, ok_pop (by decide +kernel), ⟨10, ok_aload_n (q := 0) (by decide +kernel) rfl, ⟨13, ok_getf (by decide +kernel) fo_67, ⟨14, ok_astore_n (q := 2) (by decide +kernel) rfl, ⟨15, ok_aload_n (q := 2) (by decide +kernel) rfl, ⟨16, ok_iload_n (q := 1) (by decide +kernel) rfl, ⟨17, ok_aaload (by decide +kernel), ⟨18, ok_astore_n (q := 3) (by decide +kernel) rfl, ⟨19, ok_aload_n (q := 0) (by decide +kernel) rfl, ⟨20, ok_aload_n (q := 2) (by decide +kernel) rfl, ⟨21, ok_iload_n (q := 1) (by decide +kernel) rfl, ⟨24, ok_callv (by decide) (by decide +kernel) c_82, ⟨25, ok_aload_n (q := 3) (by decide +kernel) rfl, ⟨26, ok_aret (by decide +kernel) (Or.inl ⟨_, rfl⟩), trivial⟩⟩⟩⟩⟩⟩⟩⟩⟩⟩⟩⟩⟩⟩⟩⟩⟩⟩
set_option maxRecDepth 100000 in
theorem gd_84 : sd_Good mi_l ⟨"java/util/ArrayList", "remove", "(I)Ljava/lang/Object;"⟩ prog_26_method_29_code 4 (some (FieldType.object "java/lang/Object")) cd_84 :=
  ⟨by decide +kernel, sd_bp pl_84, rfl, fun k => sd_Als.at (Bs := [B_84_0]) (ps := pl_84) ⟨_, _, rfl, al_84_0, trivial⟩ k.toNat⟩
def pl_85 : List Nat := [0, 34]
set_option maxRecDepth 100000 in
theorem al_85_0 : sd_Al mi_l "java/util/ArrayList" "fastRemove" prog_26_method_39_code 4 none (sd_bp pl_85) B_85_0 0 := ⟨1, ok_aload_n (q := 0) (by decide +kernel) rfl, ⟨2, ok_dup (by decide +kernel), ⟨5, ok_getf (by decide +kernel) fo_116, ⟨6, ok_iconst (by decide +kernel), ⟨7, ok_iadd (by decide +kernel), ⟨10, ok_putf (by decide +kernel) fp_120, ⟨11, ok_aload_n (q := 0) (by decide +kernel) rfl, ⟨14, ok_getf (by decide +kernel) fo_35, ⟨15, ok_iconst (by decide +kernel), ⟨16, ok_isub (by decide +kernel), ⟨17, ok_dup (by decide +kernel), ⟨18, ok_istore_n (q := 3) (by decide +kernel) rfl, ⟨19, ok_iload_n (q := 2) (by decide +kernel) rfl, ⟨22, ok_icmp (off := 15) (by decide +kernel) (by decide), ⟨23, ok_aload_n (q := 1) (by decide +kernel) rfl, ⟨24, ok_iload_n (q := 2) (by decide +kernel) rfl, ⟨25, ok_iconst (by decide +kernel), ⟨26, ok_iadd (by decide +kernel), ⟨27, ok_aload_n (q := 1) (by decide +kernel) rfl, ⟨28, ok_iload_n (q := 2) (by decide +kernel) rfl, ⟨29, ok_iload_n (q := 3) (by decide +kernel) rfl, ⟨30, ok_iload_n (q := 2) (by decide +kernel) rfl, ⟨31, ok_isub (by decide +kernel), ⟨34, ok_copy (by decide +kernel) g_807 g_260 g_259 g_15, ⟨34, ok_fall rfl, trivial⟩⟩⟩⟩⟩⟩⟩⟩⟩⟩⟩⟩⟩⟩⟩⟩⟩⟩⟩⟩⟩⟩⟩⟩⟩
set_option maxRecDepth 100000 in
theorem al_85_1 : sd_Al mi_l "java/util/ArrayList" "fastRemove" prog_26_method_39_code 4 none (sd_bp pl_85) B_85_1 34 := ⟨35, ok_aload_n (q := 1) (by decide +kernel) rfl, ⟨36, ok_aload_n (q := 0) (by decide +kernel) rfl, ⟨37, ok_iload_n (q := 3) (by decide +kernel) rfl, ⟨38, ok_dup_x1 (by decide +kernel), ⟨41, ok_putf (by decide +kernel) fp_121, ⟨42, ok_null (by decide +kernel), ⟨43, ok_aastore (by decide +kernel), ⟨44, ok_vret (by decide +kernel) rfl, trivial⟩⟩⟩⟩⟩⟩⟩⟩
set_option maxRecDepth 100000 in
theorem gd_85 : sd_Good mi_l ⟨"java/util/ArrayList", "fastRemove", "([Ljava/lang/Object;I)V"⟩ prog_26_method_39_code 4 none cd_85 :=
  ⟨by decide +kernel, sd_bp pl_85, rfl, fun k => sd_Als.at (Bs := [B_85_0, B_85_1]) (ps := pl_85) ⟨_, _, rfl, al_85_0, ⟨_, _, rfl, al_85_1, trivial⟩⟩ k.toNat⟩
def pl_86 : List Nat := [0]
set_option maxRecDepth 100000 in
theorem al_86_0 : sd_Al mi_l "ConeForms" "nodes" prog_1_method_12_code 1 (some FieldType.int) (sd_bp pl_86) B_86_0 0 := ⟨1, ok_aload_n (q := 0) (by decide +kernel) rfl, ⟨4, ok_getf (by decide +kernel) fo_30, ⟨7, ok_callv (by decide) (by decide +kernel) c_22, ⟨8, ok_ireti (by decide +kernel) rfl, trivial⟩⟩⟩⟩
set_option maxRecDepth 100000 in
theorem gd_86 : sd_Good mi_l ⟨"ConeForms", "nodes", "()I"⟩ prog_1_method_12_code 1 (some FieldType.int) cd_86 :=
  ⟨by decide +kernel, sd_bp pl_86, rfl, fun k => sd_Als.at (Bs := [B_86_0]) (ps := pl_86) ⟨_, _, rfl, al_86_0, trivial⟩ k.toNat⟩
def pl_87 : List Nat := [0, 14, 33]
set_option maxRecDepth 100000 in
theorem al_87_0 : sd_Al mi_l "ConeForms" "attributes" prog_1_method_13_code 3 (some FieldType.int) (sd_bp pl_87) B_87_0 0 := ⟨1, ok_aload_n (q := 0) (by decide +kernel) rfl, ⟨2, ok_iload_n (q := 1) (by decide +kernel) rfl, ⟨5, ok_callv (by decide) (by decide +kernel) c_83, ⟨6, ok_astore_n (q := 2) (by decide +kernel) rfl, ⟨7, ok_aload_n (q := 2) (by decide +kernel) rfl, ⟨10, ok_ifnn (off := 7) (by decide +kernel) (by decide), ⟨11, ok_iconst (by decide +kernel), ⟨14, ok_goto (off := 22) (by decide +kernel) (by decide), trivial⟩⟩⟩⟩⟩⟩⟩⟩
set_option maxRecDepth 100000 in
theorem al_87_1 : sd_Al mi_l "ConeForms" "attributes" prog_1_method_13_code 3 (some FieldType.int) (sd_bp pl_87) B_87_1 14 := ⟨15, ok_aload_n (q := 2) (by decide +kernel) rfl, ⟨18, ok_getf (by decide +kernel) fo_122, ⟨19, ok_iconst (by decide +kernel), ⟨20, ok_aload_n (q := 2) (by decide +kernel) rfl, ⟨23, ok_getf (by decide +kernel) fo_123, ⟨24, ok_imul (by decide +kernel), ⟨25, ok_iadd (by decide +kernel), ⟨27, ok_bipush (n2 := 32) (by decide +kernel) (by decide), ⟨28, ok_aload_n (q := 2) (by decide +kernel) rfl, ⟨31, ok_getf (by decide +kernel) fo_124, ⟨32, ok_imul (by decide +kernel), ⟨33, ok_iadd (by decide +kernel), ⟨33, ok_fall rfl, trivial⟩⟩⟩⟩⟩⟩⟩⟩⟩⟩⟩⟩⟩
set_option maxRecDepth 100000 in
theorem al_87_2 : sd_Al mi_l "ConeForms" "attributes" prog_1_method_13_code 3 (some FieldType.int) (sd_bp pl_87) B_87_2 33 := ⟨34, ok_ireti (by decide +kernel) rfl, trivial⟩
set_option maxRecDepth 100000 in
theorem gd_87 : sd_Good mi_l ⟨"ConeForms", "attributes", "(I)I"⟩ prog_1_method_13_code 3 (some FieldType.int) cd_87 :=
  ⟨by decide +kernel, sd_bp pl_87, rfl, fun k => sd_Als.at (Bs := [B_87_0, B_87_1, B_87_2]) (ps := pl_87) ⟨_, _, rfl, al_87_0, ⟨_, _, rfl, al_87_1, ⟨_, _, rfl, al_87_2, trivial⟩⟩⟩ k.toNat⟩
