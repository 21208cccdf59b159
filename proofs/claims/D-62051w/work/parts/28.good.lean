/-! SOUNDNESS of the whole program. -/
def sd_AllGood (mi : List (MethodName × ByteArray × Nat × Option FieldType)) : List (Nat × (Int → List Instr)) → List (MethodName × ByteArray × Nat × Option FieldType) → Prop
  | [], _ => True
  | _ :: _, [] => False
  | q :: ps, i :: is => q.1 = i.2.2.1 ∧ sd_Good mi i.1 i.2.1 i.2.2.1 i.2.2.2 q.2 ∧ sd_AllGood mi ps is
theorem sd_AllGood.at {mi : List (MethodName × ByteArray × Nat × Option FieldType)} : ∀ {ps : List (Nat × (Int → List Instr))} {is : List (MethodName × ByteArray × Nat × Option FieldType)}, sd_AllGood mi ps is → ∀ (z mL : Nat) (C : Int → List Instr), ps[z]? = some (mL, C) → ∃ y b ret, is[z]? = some (y, b, mL, ret) ∧ sd_Good mi y b mL ret C
  | [], _, _, z, mL, C, h => by simp at h
  | q :: ps, [], hg, z, mL, C, h => hg.elim
  | q :: ps, i :: is, ⟨h1, h2, h3⟩, 0, mL, C, h => by
    simp only [List.getElem?_cons_zero, Option.some.injEq] at h
    subst h
    obtain ⟨y, b, mL', r⟩ := i
    dsimp only at h1 h2
    subst h1
    exact ⟨y, b, r, rfl, h2⟩
  | q :: ps, i :: is, ⟨h1, h2, h3⟩, z + 1, mL, C, h => by
    simp only [List.getElem?_cons_succ] at h ⊢
    exact h3.at z mL C h
set_option maxRecDepth 100000 in
theorem sd_all : sd_AllGood mi_l pg_l mi_l := ⟨rfl, gd_0, ⟨rfl, gd_1, ⟨rfl, gd_2, ⟨rfl, gd_3, ⟨rfl, gd_4, ⟨rfl, gd_5, ⟨rfl, gd_6, ⟨rfl, gd_7, ⟨rfl, gd_8, ⟨rfl, gd_9, ⟨rfl, gd_10, ⟨rfl, gd_11, ⟨rfl, gd_12, ⟨rfl, gd_13, ⟨rfl, gd_14, ⟨rfl, gd_15, ⟨rfl, gd_16, ⟨rfl, gd_17, ⟨rfl, gd_18, ⟨rfl, gd_19, ⟨rfl, gd_20, ⟨rfl, gd_21, ⟨rfl, gd_22, ⟨rfl, gd_23, ⟨rfl, gd_24, ⟨rfl, gd_25, ⟨rfl, gd_26, ⟨rfl, gd_27, ⟨rfl, gd_28, ⟨rfl, gd_29, ⟨rfl, gd_30, ⟨rfl, gd_31, ⟨rfl, gd_32, ⟨rfl, gd_33, ⟨rfl, gd_34, ⟨rfl, gd_35, ⟨rfl, gd_36, ⟨rfl, gd_37, ⟨rfl, gd_38, ⟨rfl, gd_39, ⟨rfl, gd_40, ⟨rfl, gd_41, ⟨rfl, gd_42, ⟨rfl, gd_43, ⟨rfl, gd_44, ⟨rfl, gd_45, ⟨rfl, gd_46, ⟨rfl, gd_47, ⟨rfl, gd_48, ⟨rfl, gd_49, ⟨rfl, gd_50, ⟨rfl, gd_51, ⟨rfl, gd_52, ⟨rfl, gd_53, ⟨rfl, gd_54, ⟨rfl, gd_55, ⟨rfl, gd_56, ⟨rfl, gd_57, ⟨rfl, gd_58, ⟨rfl, gd_59, ⟨rfl, gd_60, ⟨rfl, gd_61, ⟨rfl, gd_62, ⟨rfl, gd_63, ⟨rfl, gd_64, ⟨rfl, gd_65, ⟨rfl, gd_66, ⟨rfl, gd_67, ⟨rfl, gd_68, ⟨rfl, gd_69, ⟨rfl, gd_70, ⟨rfl, gd_71, ⟨rfl, gd_72, ⟨rfl, gd_73, ⟨rfl, gd_74, ⟨rfl, gd_75, ⟨rfl, gd_76, ⟨rfl, gd_77, ⟨rfl, gd_78, ⟨rfl, gd_79, ⟨rfl, gd_80, ⟨rfl, gd_81, ⟨rfl, gd_82, ⟨rfl, gd_83, ⟨rfl, gd_84, ⟨rfl, gd_85, ⟨rfl, gd_86, ⟨rfl, gd_87, ⟨rfl, gd_88, ⟨rfl, gd_89, ⟨rfl, gd_90, ⟨rfl, gd_91, ⟨rfl, gd_92, ⟨rfl, gd_93, ⟨rfl, gd_94, ⟨rfl, gd_95, ⟨rfl, gd_96, ⟨rfl, gd_97, ⟨rfl, gd_98, ⟨rfl, gd_99, ⟨rfl, gd_100, ⟨rfl, gd_101, ⟨rfl, gd_102, ⟨rfl, gd_103, ⟨rfl, gd_104, ⟨rfl, gd_105, ⟨rfl, gd_106, ⟨rfl, gd_107, ⟨rfl, gd_108, ⟨rfl, gd_109, ⟨rfl, gd_110, ⟨rfl, gd_111, ⟨rfl, gd_112, ⟨rfl, gd_113, ⟨rfl, gd_114, ⟨rfl, gd_115, ⟨rfl, gd_116, ⟨rfl, gd_117, ⟨rfl, gd_118, ⟨rfl, gd_119, ⟨rfl, gd_120, ⟨rfl, gd_121, ⟨rfl, gd_122, ⟨rfl, gd_123, ⟨rfl, gd_124, ⟨rfl, gd_125, ⟨rfl, gd_126, ⟨rfl, gd_127, ⟨rfl, gd_128, ⟨rfl, gd_129, ⟨rfl, gd_130, ⟨rfl, gd_131, ⟨rfl, gd_132, ⟨rfl, gd_133, ⟨rfl, gd_134, ⟨rfl, gd_135, ⟨rfl, gd_136, ⟨rfl, gd_137, ⟨rfl, gd_138, ⟨rfl, gd_139, ⟨rfl, gd_140, ⟨rfl, gd_141, ⟨rfl, gd_142, ⟨rfl, gd_143, ⟨rfl, gd_144, ⟨rfl, gd_145, ⟨rfl, gd_146, ⟨rfl, gd_147, ⟨rfl, gd_148, ⟨rfl, gd_149, ⟨rfl, gd_150, ⟨rfl, gd_151, ⟨rfl, gd_152, ⟨rfl, gd_153, ⟨rfl, gd_154, ⟨rfl, gd_155, ⟨rfl, gd_156, ⟨rfl, gd_157, ⟨rfl, gd_158, ⟨rfl, gd_159, ⟨rfl, gd_160, ⟨rfl, gd_161, ⟨rfl, gd_162, ⟨rfl, gd_163, ⟨rfl, gd_164, ⟨rfl, gd_165, ⟨rfl, gd_166, ⟨rfl, gd_167, ⟨rfl, gd_168, ⟨rfl, gd_169, ⟨rfl, gd_170, ⟨rfl, gd_171, ⟨rfl, gd_172, ⟨rfl, gd_173, ⟨rfl, gd_174, ⟨rfl, gd_175, ⟨rfl, gd_176, ⟨rfl, gd_177, ⟨rfl, gd_178, ⟨rfl, gd_179, ⟨rfl, gd_180, ⟨rfl, gd_181, ⟨rfl, gd_182, ⟨rfl, gd_183, ⟨rfl, gd_184, ⟨rfl, gd_185, ⟨rfl, gd_186, ⟨rfl, gd_187, ⟨rfl, gd_188, ⟨rfl, gd_189, ⟨rfl, gd_190, ⟨rfl, gd_191, ⟨rfl, gd_192, ⟨rfl, gd_193, ⟨rfl, gd_194, ⟨rfl, gd_195, ⟨rfl, gd_196, ⟨rfl, gd_197, ⟨rfl, gd_198, ⟨rfl, gd_199, trivial⟩⟩⟩⟩⟩⟩⟩⟩⟩⟩⟩⟩⟩⟩⟩⟩⟩⟩⟩⟩⟩⟩⟩⟩⟩⟩⟩⟩⟩⟩⟩⟩⟩⟩⟩⟩⟩⟩⟩⟩⟩⟩⟩⟩⟩⟩⟩⟩⟩⟩⟩⟩⟩⟩⟩⟩⟩⟩⟩⟩⟩⟩⟩⟩⟩⟩⟩⟩⟩⟩⟩⟩⟩⟩⟩⟩⟩⟩⟩⟩⟩⟩⟩⟩⟩⟩⟩⟩⟩⟩⟩⟩⟩⟩⟩⟩⟩⟩⟩⟩⟩⟩⟩⟩⟩⟩⟩⟩⟩⟩⟩⟩⟩⟩⟩⟩⟩⟩⟩⟩⟩⟩⟩⟩⟩⟩⟩⟩⟩⟩⟩⟩⟩⟩⟩⟩⟩⟩⟩⟩⟩⟩⟩⟩⟩⟩⟩⟩⟩⟩⟩⟩⟩⟩⟩⟩⟩⟩⟩⟩⟩⟩⟩⟩⟩⟩⟩⟩⟩⟩⟩⟩⟩⟩⟩⟩⟩⟩⟩⟩⟩⟩⟩⟩⟩⟩⟩⟩⟩⟩⟩⟩⟩⟩⟩⟩⟩⟩⟩⟩
theorem sd_hgood : ∀ z mL C, PG.1 z = some (mL, C) → ∃ y b ret, mi_l[z]? = some (y, b, mL, ret) ∧ sd_Good mi_l y b mL ret C := fun z mL C h => sd_all.at z mL C h
/-- what a call of the abstract machine does, the machine does -/
theorem sd_calls {G : sd_G} {l : Launch} {N d z : Nat} {as : List Value} {w : am_W} {x : Option Value × am_W} (h : am_call PG N d z as w = some x) : sd_MetZ mi_l G l d z as w x.1 x.2 := sd_sound sd_hgood d z as w x h
