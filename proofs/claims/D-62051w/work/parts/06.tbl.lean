-- ===== PART A: goes FIRST, ahead of the names: the tables' words, and 'selects' of the private methods out of them =====
/-- a private method of a class that the tables say can be made, by its rows of tables_1 -/
def lw_okq (q : MethodName × Nat) : Prop := (q.1.cls ≠ "java/lang/invoke/MethodHandle" ∧ q.1.cls ≠ "java/lang/invoke/VarHandle") ∧ Cond.instantiable q.1.cls q.2 ∈ tables_1 ∧ Cond.privateMethod q.1 ∈ tables_1 ∧ Cond.instanceMethod q.1 ∈ tables_1
theorem lw_p0 : lw_okq (⟨"ConeForms$Scanner", "first", "(C)Z"⟩, 9) := ⟨⟨by decide +kernel, by decide +kernel⟩, List.mem_of_getElem? (i := 69) (by decide +kernel), List.mem_of_getElem? (i := 364) (by decide +kernel), List.mem_of_getElem? (i := 365) (by decide +kernel)⟩
theorem lw_p1 : lw_okq (⟨"ConeForms$Scanner", "digit", "()Z"⟩, 9) := ⟨⟨by decide +kernel, by decide +kernel⟩, List.mem_of_getElem? (i := 69) (by decide +kernel), List.mem_of_getElem? (i := 368) (by decide +kernel), List.mem_of_getElem? (i := 369) (by decide +kernel)⟩
theorem lw_p2 : lw_okq (⟨"ConeForms$Scanner", "number", "(I)I"⟩, 9) := ⟨⟨by decide +kernel, by decide +kernel⟩, List.mem_of_getElem? (i := 69) (by decide +kernel), List.mem_of_getElem? (i := 372) (by decide +kernel), List.mem_of_getElem? (i := 373) (by decide +kernel)⟩
theorem lw_p3 : lw_okq (⟨"ConeForms$Scanner", "step", "(LConeForms$Kind;I)V"⟩, 9) := ⟨⟨by decide +kernel, by decide +kernel⟩, List.mem_of_getElem? (i := 69) (by decide +kernel), List.mem_of_getElem? (i := 378) (by decide +kernel), List.mem_of_getElem? (i := 379) (by decide +kernel)⟩
theorem lw_p4 : lw_okq (⟨"ConeForms$Scanner", "push", "(CI)V"⟩, 9) := ⟨⟨by decide +kernel, by decide +kernel⟩, List.mem_of_getElem? (i := 69) (by decide +kernel), List.mem_of_getElem? (i := 386) (by decide +kernel), List.mem_of_getElem? (i := 387) (by decide +kernel)⟩
theorem lw_p5 : lw_okq (⟨"ConeForms$Scanner", "then", "(C)Z"⟩, 9) := ⟨⟨by decide +kernel, by decide +kernel⟩, List.mem_of_getElem? (i := 69) (by decide +kernel), List.mem_of_getElem? (i := 415) (by decide +kernel), List.mem_of_getElem? (i := 416) (by decide +kernel)⟩
theorem lw_p6 : lw_okq (⟨"ConeForms$Scanner", "reduce", "(I)V"⟩, 9) := ⟨⟨by decide +kernel, by decide +kernel⟩, List.mem_of_getElem? (i := 69) (by decide +kernel), List.mem_of_getElem? (i := 419) (by decide +kernel), List.mem_of_getElem? (i := 420) (by decide +kernel)⟩
theorem lw_p7 : lw_okq (⟨"ConeForms", "make", "(I)I"⟩, 17) := ⟨⟨by decide +kernel, by decide +kernel⟩, List.mem_of_getElem? (i := 29) (by decide +kernel), List.mem_of_getElem? (i := 426) (by decide +kernel), List.mem_of_getElem? (i := 427) (by decide +kernel)⟩
theorem lw_p8 : lw_okq (⟨"ConeForms", "equal", "(LConeForms$Kind;ILConeForms$Node;LConeForms$Node;LConeForms$Node;)LConeForms$Node;"⟩, 17) := ⟨⟨by decide +kernel, by decide +kernel⟩, List.mem_of_getElem? (i := 29) (by decide +kernel), List.mem_of_getElem? (i := 442) (by decide +kernel), List.mem_of_getElem? (i := 443) (by decide +kernel)⟩
theorem lw_p9 : lw_okq (⟨"ConeForms", "settle", "(LConeForms$Node;I)V"⟩, 17) := ⟨⟨by decide +kernel, by decide +kernel⟩, List.mem_of_getElem? (i := 29) (by decide +kernel), List.mem_of_getElem? (i := 655) (by decide +kernel), List.mem_of_getElem? (i := 656) (by decide +kernel)⟩
theorem lw_p10 : lw_okq (⟨"java/util/ArrayList", "add", "(Ljava/lang/Object;[Ljava/lang/Object;I)V"⟩, 3) := ⟨⟨by decide +kernel, by decide +kernel⟩, List.mem_of_getElem? (i := 111) (by decide +kernel), List.mem_of_getElem? (i := 759) (by decide +kernel), List.mem_of_getElem? (i := 760) (by decide +kernel)⟩
theorem lw_p11 : lw_okq (⟨"java/util/ArrayList", "grow", "()[Ljava/lang/Object;"⟩, 3) := ⟨⟨by decide +kernel, by decide +kernel⟩, List.mem_of_getElem? (i := 111) (by decide +kernel), List.mem_of_getElem? (i := 763) (by decide +kernel), List.mem_of_getElem? (i := 764) (by decide +kernel)⟩
theorem lw_p12 : lw_okq (⟨"java/util/ArrayList", "grow", "(I)[Ljava/lang/Object;"⟩, 3) := ⟨⟨by decide +kernel, by decide +kernel⟩, List.mem_of_getElem? (i := 111) (by decide +kernel), List.mem_of_getElem? (i := 767) (by decide +kernel), List.mem_of_getElem? (i := 768) (by decide +kernel)⟩
theorem lw_p13 : lw_okq (⟨"java/util/ArrayList", "fastRemove", "([Ljava/lang/Object;I)V"⟩, 3) := ⟨⟨by decide +kernel, by decide +kernel⟩, List.mem_of_getElem? (i := 111) (by decide +kernel), List.mem_of_getElem? (i := 804) (by decide +kernel), List.mem_of_getElem? (i := 805) (by decide +kernel)⟩
theorem lw_p14 : lw_okq (⟨"ConeForms", "node", "(I)LConeForms$Node;"⟩, 17) := ⟨⟨by decide +kernel, by decide +kernel⟩, List.mem_of_getElem? (i := 29) (by decide +kernel), List.mem_of_getElem? (i := 817) (by decide +kernel), List.mem_of_getElem? (i := 818) (by decide +kernel)⟩
theorem lw_p15 : lw_okq (⟨"ConeForms", "fill", "()V"⟩, 17) := ⟨⟨by decide +kernel, by decide +kernel⟩, List.mem_of_getElem? (i := 29) (by decide +kernel), List.mem_of_getElem? (i := 839) (by decide +kernel), List.mem_of_getElem? (i := 840) (by decide +kernel)⟩
def lw_privs_1 : List (MethodName × Nat) := [(⟨"ConeForms$Scanner", "first", "(C)Z"⟩, 9), (⟨"ConeForms$Scanner", "digit", "()Z"⟩, 9), (⟨"ConeForms$Scanner", "number", "(I)I"⟩, 9), (⟨"ConeForms$Scanner", "step", "(LConeForms$Kind;I)V"⟩, 9), (⟨"ConeForms$Scanner", "push", "(CI)V"⟩, 9), (⟨"ConeForms$Scanner", "then", "(C)Z"⟩, 9), (⟨"ConeForms$Scanner", "reduce", "(I)V"⟩, 9), (⟨"ConeForms", "make", "(I)I"⟩, 17), (⟨"ConeForms", "equal", "(LConeForms$Kind;ILConeForms$Node;LConeForms$Node;LConeForms$Node;)LConeForms$Node;"⟩, 17), (⟨"ConeForms", "settle", "(LConeForms$Node;I)V"⟩, 17), (⟨"java/util/ArrayList", "add", "(Ljava/lang/Object;[Ljava/lang/Object;I)V"⟩, 3), (⟨"java/util/ArrayList", "grow", "()[Ljava/lang/Object;"⟩, 3), (⟨"java/util/ArrayList", "grow", "(I)[Ljava/lang/Object;"⟩, 3), (⟨"java/util/ArrayList", "fastRemove", "([Ljava/lang/Object;I)V"⟩, 3), (⟨"ConeForms", "node", "(I)LConeForms$Node;"⟩, 17), (⟨"ConeForms", "fill", "()V"⟩, 17)]
theorem lw_r1 : ∀ q ∈ lw_privs_1, lw_okq q := List.forall_mem_cons.mpr ⟨lw_p0, List.forall_mem_cons.mpr ⟨lw_p1, List.forall_mem_cons.mpr ⟨lw_p2, List.forall_mem_cons.mpr ⟨lw_p3, List.forall_mem_cons.mpr ⟨lw_p4, List.forall_mem_cons.mpr ⟨lw_p5, List.forall_mem_cons.mpr ⟨lw_p6, List.forall_mem_cons.mpr ⟨lw_p7, List.forall_mem_cons.mpr ⟨lw_p8, List.forall_mem_cons.mpr ⟨lw_p9, List.forall_mem_cons.mpr ⟨lw_p10, List.forall_mem_cons.mpr ⟨lw_p11, List.forall_mem_cons.mpr ⟨lw_p12, List.forall_mem_cons.mpr ⟨lw_p13, List.forall_mem_cons.mpr ⟨lw_p14, List.forall_mem_cons.mpr ⟨lw_p15, fun _ h => absurd h List.not_mem_nil⟩⟩⟩⟩⟩⟩⟩⟩⟩⟩⟩⟩⟩⟩⟩⟩
theorem lw_p16 : lw_okq (⟨"ConeForms", "row", "(LConeForms$Node;ILConeForms$Node;ILConeForms$Node;II)V"⟩, 17) := ⟨⟨by decide +kernel, by decide +kernel⟩, List.mem_of_getElem? (i := 29) (by decide +kernel), List.mem_of_getElem? (i := 883) (by decide +kernel), List.mem_of_getElem? (i := 884) (by decide +kernel)⟩
theorem lw_p17 : lw_okq (⟨"ConeForms", "plain", "(LConeForms$Node;)V"⟩, 17) := ⟨⟨by decide +kernel, by decide +kernel⟩, List.mem_of_getElem? (i := 29) (by decide +kernel), List.mem_of_getElem? (i := 887) (by decide +kernel), List.mem_of_getElem? (i := 888) (by decide +kernel)⟩
theorem lw_p18 : lw_okq (⟨"ConeForms", "culpritOf", "(LConeForms$Node;)LConeForms$Node;"⟩, 17) := ⟨⟨by decide +kernel, by decide +kernel⟩, List.mem_of_getElem? (i := 29) (by decide +kernel), List.mem_of_getElem? (i := 898) (by decide +kernel), List.mem_of_getElem? (i := 899) (by decide +kernel)⟩
theorem lw_p19 : lw_okq (⟨"ConeForms", "drop", "()V"⟩, 17) := ⟨⟨by decide +kernel, by decide +kernel⟩, List.mem_of_getElem? (i := 29) (by decide +kernel), List.mem_of_getElem? (i := 909) (by decide +kernel), List.mem_of_getElem? (i := 910) (by decide +kernel)⟩
theorem lw_p20 : lw_okq (⟨"ConeForms", "wrongPart", "()LConeForms$Node;"⟩, 17) := ⟨⟨by decide +kernel, by decide +kernel⟩, List.mem_of_getElem? (i := 29) (by decide +kernel), List.mem_of_getElem? (i := 951) (by decide +kernel), List.mem_of_getElem? (i := 952) (by decide +kernel)⟩
theorem lw_p21 : lw_okq (⟨"ConeForms", "wrong", "(LConeForms$Node;I)LConeForms$Node;"⟩, 17) := ⟨⟨by decide +kernel, by decide +kernel⟩, List.mem_of_getElem? (i := 29) (by decide +kernel), List.mem_of_getElem? (i := 955) (by decide +kernel), List.mem_of_getElem? (i := 956) (by decide +kernel)⟩
theorem lw_p22 : lw_okq (⟨"ConeForms", "use", "()V"⟩, 17) := ⟨⟨by decide +kernel, by decide +kernel⟩, List.mem_of_getElem? (i := 29) (by decide +kernel), List.mem_of_getElem? (i := 959) (by decide +kernel), List.mem_of_getElem? (i := 960) (by decide +kernel)⟩
theorem lw_p23 : lw_okq (⟨"ConeForms", "number", "(LConeForms$Node;)V"⟩, 17) := ⟨⟨by decide +kernel, by decide +kernel⟩, List.mem_of_getElem? (i := 29) (by decide +kernel), List.mem_of_getElem? (i := 964) (by decide +kernel), List.mem_of_getElem? (i := 965) (by decide +kernel)⟩
theorem lw_p24 : lw_okq (⟨"ConeForms", "worth", "(I)J"⟩, 17) := ⟨⟨by decide +kernel, by decide +kernel⟩, List.mem_of_getElem? (i := 29) (by decide +kernel), List.mem_of_getElem? (i := 1038) (by decide +kernel), List.mem_of_getElem? (i := 1039) (by decide +kernel)⟩
theorem lw_p25 : lw_okq (⟨"ConeFormsModel", "parse", "()I"⟩, 36) := ⟨⟨by decide +kernel, by decide +kernel⟩, List.mem_of_getElem? (i := 1075) (by decide +kernel), List.mem_of_getElem? (i := 1204) (by decide +kernel), List.mem_of_getElem? (i := 1205) (by decide +kernel)⟩
theorem lw_p26 : lw_okq (⟨"ConeFormsModel", "accept", "(I)Z"⟩, 36) := ⟨⟨by decide +kernel, by decide +kernel⟩, List.mem_of_getElem? (i := 1075) (by decide +kernel), List.mem_of_getElem? (i := 1208) (by decide +kernel), List.mem_of_getElem? (i := 1209) (by decide +kernel)⟩
theorem lw_p27 : lw_okq (⟨"ConeFormsModel", "operand", "(II)V"⟩, 36) := ⟨⟨by decide +kernel, by decide +kernel⟩, List.mem_of_getElem? (i := 1075) (by decide +kernel), List.mem_of_getElem? (i := 1212) (by decide +kernel), List.mem_of_getElem? (i := 1213) (by decide +kernel)⟩
theorem lw_p28 : lw_okq (⟨"ConeFormsModel", "emit", "(II)V"⟩, 36) := ⟨⟨by decide +kernel, by decide +kernel⟩, List.mem_of_getElem? (i := 1075) (by decide +kernel), List.mem_of_getElem? (i := 1216) (by decide +kernel), List.mem_of_getElem? (i := 1217) (by decide +kernel)⟩
theorem lw_p29 : lw_okq (⟨"ConeFormsModel", "negations", "()V"⟩, 36) := ⟨⟨by decide +kernel, by decide +kernel⟩, List.mem_of_getElem? (i := 1075) (by decide +kernel), List.mem_of_getElem? (i := 1220) (by decide +kernel), List.mem_of_getElem? (i := 1221) (by decide +kernel)⟩
theorem lw_p30 : lw_okq (⟨"ConeFormsModel", "begin", "(I)Z"⟩, 36) := ⟨⟨by decide +kernel, by decide +kernel⟩, List.mem_of_getElem? (i := 1075) (by decide +kernel), List.mem_of_getElem? (i := 1224) (by decide +kernel), List.mem_of_getElem? (i := 1225) (by decide +kernel)⟩
theorem lw_p31 : lw_okq (⟨"ConeFormsModel", "open", "(I)V"⟩, 36) := ⟨⟨by decide +kernel, by decide +kernel⟩, List.mem_of_getElem? (i := 1075) (by decide +kernel), List.mem_of_getElem? (i := 1228) (by decide +kernel), List.mem_of_getElem? (i := 1229) (by decide +kernel)⟩
def lw_privs_2 : List (MethodName × Nat) := [(⟨"ConeForms", "row", "(LConeForms$Node;ILConeForms$Node;ILConeForms$Node;II)V"⟩, 17), (⟨"ConeForms", "plain", "(LConeForms$Node;)V"⟩, 17), (⟨"ConeForms", "culpritOf", "(LConeForms$Node;)LConeForms$Node;"⟩, 17), (⟨"ConeForms", "drop", "()V"⟩, 17), (⟨"ConeForms", "wrongPart", "()LConeForms$Node;"⟩, 17), (⟨"ConeForms", "wrong", "(LConeForms$Node;I)LConeForms$Node;"⟩, 17), (⟨"ConeForms", "use", "()V"⟩, 17), (⟨"ConeForms", "number", "(LConeForms$Node;)V"⟩, 17), (⟨"ConeForms", "worth", "(I)J"⟩, 17), (⟨"ConeFormsModel", "parse", "()I"⟩, 36), (⟨"ConeFormsModel", "accept", "(I)Z"⟩, 36), (⟨"ConeFormsModel", "operand", "(II)V"⟩, 36), (⟨"ConeFormsModel", "emit", "(II)V"⟩, 36), (⟨"ConeFormsModel", "negations", "()V"⟩, 36), (⟨"ConeFormsModel", "begin", "(I)Z"⟩, 36), (⟨"ConeFormsModel", "open", "(I)V"⟩, 36)]
theorem lw_r2 : ∀ q ∈ lw_privs_2, lw_okq q := List.forall_mem_cons.mpr ⟨lw_p16, List.forall_mem_cons.mpr ⟨lw_p17, List.forall_mem_cons.mpr ⟨lw_p18, List.forall_mem_cons.mpr ⟨lw_p19, List.forall_mem_cons.mpr ⟨lw_p20, List.forall_mem_cons.mpr ⟨lw_p21, List.forall_mem_cons.mpr ⟨lw_p22, List.forall_mem_cons.mpr ⟨lw_p23, List.forall_mem_cons.mpr ⟨lw_p24, List.forall_mem_cons.mpr ⟨lw_p25, List.forall_mem_cons.mpr ⟨lw_p26, List.forall_mem_cons.mpr ⟨lw_p27, List.forall_mem_cons.mpr ⟨lw_p28, List.forall_mem_cons.mpr ⟨lw_p29, List.forall_mem_cons.mpr ⟨lw_p30, List.forall_mem_cons.mpr ⟨lw_p31, fun _ h => absurd h List.not_mem_nil⟩⟩⟩⟩⟩⟩⟩⟩⟩⟩⟩⟩⟩⟩⟩⟩
theorem lw_p32 : lw_okq (⟨"ConeFormsModel", "follow", "(I)Z"⟩, 36) := ⟨⟨by decide +kernel, by decide +kernel⟩, List.mem_of_getElem? (i := 1075) (by decide +kernel), List.mem_of_getElem? (i := 1232) (by decide +kernel), List.mem_of_getElem? (i := 1233) (by decide +kernel)⟩
theorem lw_p33 : lw_okq (⟨"ConeFormsModel", "unwind", "(Z)V"⟩, 36) := ⟨⟨by decide +kernel, by decide +kernel⟩, List.mem_of_getElem? (i := 1075) (by decide +kernel), List.mem_of_getElem? (i := 1236) (by decide +kernel), List.mem_of_getElem? (i := 1237) (by decide +kernel)⟩
theorem lw_p34 : lw_okq (⟨"ConeFormsModel", "build", "(I)I"⟩, 36) := ⟨⟨by decide +kernel, by decide +kernel⟩, List.mem_of_getElem? (i := 1075) (by decide +kernel), List.mem_of_getElem? (i := 1243) (by decide +kernel), List.mem_of_getElem? (i := 1244) (by decide +kernel)⟩
theorem lw_p35 : lw_okq (⟨"ConeFormsModel", "make", "(IIIII)I"⟩, 36) := ⟨⟨by decide +kernel, by decide +kernel⟩, List.mem_of_getElem? (i := 1075) (by decide +kernel), List.mem_of_getElem? (i := 1250) (by decide +kernel), List.mem_of_getElem? (i := 1251) (by decide +kernel)⟩
theorem lw_p36 : lw_okq (⟨"ConeFormsModel", "reachOf", "(IIIII)J"⟩, 36) := ⟨⟨by decide +kernel, by decide +kernel⟩, List.mem_of_getElem? (i := 1075) (by decide +kernel), List.mem_of_getElem? (i := 1254) (by decide +kernel), List.mem_of_getElem? (i := 1255) (by decide +kernel)⟩
theorem lw_p37 : lw_okq (⟨"ConeFormsModel", "work", "()V"⟩, 36) := ⟨⟨by decide +kernel, by decide +kernel⟩, List.mem_of_getElem? (i := 1075) (by decide +kernel), List.mem_of_getElem? (i := 1269) (by decide +kernel), List.mem_of_getElem? (i := 1270) (by decide +kernel)⟩
theorem lw_p38 : lw_okq (⟨"ConeFormsModel", "signs", "(IIII)V"⟩, 36) := ⟨⟨by decide +kernel, by decide +kernel⟩, List.mem_of_getElem? (i := 1075) (by decide +kernel), List.mem_of_getElem? (i := 1273) (by decide +kernel), List.mem_of_getElem? (i := 1274) (by decide +kernel)⟩
theorem lw_p39 : lw_okq (⟨"ConeFormsModel", "worthOf", "(IIII)I"⟩, 36) := ⟨⟨by decide +kernel, by decide +kernel⟩, List.mem_of_getElem? (i := 1075) (by decide +kernel), List.mem_of_getElem? (i := 1277) (by decide +kernel), List.mem_of_getElem? (i := 1278) (by decide +kernel)⟩
theorem lw_p40 : lw_okq (⟨"ConeFormsModel", "curveOf", "(I)I"⟩, 36) := ⟨⟨by decide +kernel, by decide +kernel⟩, List.mem_of_getElem? (i := 1075) (by decide +kernel), List.mem_of_getElem? (i := 1284) (by decide +kernel), List.mem_of_getElem? (i := 1285) (by decide +kernel)⟩
theorem lw_p41 : lw_okq (⟨"ConeFormsModel", "having", "(III)I"⟩, 36) := ⟨⟨by decide +kernel, by decide +kernel⟩, List.mem_of_getElem? (i := 1075) (by decide +kernel), List.mem_of_getElem? (i := 1288) (by decide +kernel), List.mem_of_getElem? (i := 1289) (by decide +kernel)⟩
theorem lw_p42 : lw_okq (⟨"ConeFormsModel", "firstNot", "(II)I"⟩, 36) := ⟨⟨by decide +kernel, by decide +kernel⟩, List.mem_of_getElem? (i := 1075) (by decide +kernel), List.mem_of_getElem? (i := 1292) (by decide +kernel), List.mem_of_getElem? (i := 1293) (by decide +kernel)⟩
theorem lw_p43 : lw_okq (⟨"ConeFormsModel", "admits", "(III)Z"⟩, 36) := ⟨⟨by decide +kernel, by decide +kernel⟩, List.mem_of_getElem? (i := 1075) (by decide +kernel), List.mem_of_getElem? (i := 1296) (by decide +kernel), List.mem_of_getElem? (i := 1297) (by decide +kernel)⟩
theorem lw_p44 : lw_okq (⟨"ConeFormsModel", "trend", "(II)I"⟩, 36) := ⟨⟨by decide +kernel, by decide +kernel⟩, List.mem_of_getElem? (i := 1075) (by decide +kernel), List.mem_of_getElem? (i := 1300) (by decide +kernel), List.mem_of_getElem? (i := 1301) (by decide +kernel)⟩
theorem lw_p45 : lw_okq (⟨"ConeFormsModel", "blameOf", "(I)I"⟩, 36) := ⟨⟨by decide +kernel, by decide +kernel⟩, List.mem_of_getElem? (i := 1075) (by decide +kernel), List.mem_of_getElem? (i := 1304) (by decide +kernel), List.mem_of_getElem? (i := 1305) (by decide +kernel)⟩
theorem lw_p46 : lw_okq (⟨"ConeFormsModel", "isNode", "(I)Z"⟩, 36) := ⟨⟨by decide +kernel, by decide +kernel⟩, List.mem_of_getElem? (i := 1075) (by decide +kernel), List.mem_of_getElem? (i := 1308) (by decide +kernel), List.mem_of_getElem? (i := 1309) (by decide +kernel)⟩
theorem lw_p47 : lw_okq (⟨"ConeFormsModel", "walk", "(I)I"⟩, 36) := ⟨⟨by decide +kernel, by decide +kernel⟩, List.mem_of_getElem? (i := 1075) (by decide +kernel), List.mem_of_getElem? (i := 1324) (by decide +kernel), List.mem_of_getElem? (i := 1325) (by decide +kernel)⟩
def lw_privs_3 : List (MethodName × Nat) := [(⟨"ConeFormsModel", "follow", "(I)Z"⟩, 36), (⟨"ConeFormsModel", "unwind", "(Z)V"⟩, 36), (⟨"ConeFormsModel", "build", "(I)I"⟩, 36), (⟨"ConeFormsModel", "make", "(IIIII)I"⟩, 36), (⟨"ConeFormsModel", "reachOf", "(IIIII)J"⟩, 36), (⟨"ConeFormsModel", "work", "()V"⟩, 36), (⟨"ConeFormsModel", "signs", "(IIII)V"⟩, 36), (⟨"ConeFormsModel", "worthOf", "(IIII)I"⟩, 36), (⟨"ConeFormsModel", "curveOf", "(I)I"⟩, 36), (⟨"ConeFormsModel", "having", "(III)I"⟩, 36), (⟨"ConeFormsModel", "firstNot", "(II)I"⟩, 36), (⟨"ConeFormsModel", "admits", "(III)Z"⟩, 36), (⟨"ConeFormsModel", "trend", "(II)I"⟩, 36), (⟨"ConeFormsModel", "blameOf", "(I)I"⟩, 36), (⟨"ConeFormsModel", "isNode", "(I)Z"⟩, 36), (⟨"ConeFormsModel", "walk", "(I)I"⟩, 36)]
theorem lw_r3 : ∀ q ∈ lw_privs_3, lw_okq q := List.forall_mem_cons.mpr ⟨lw_p32, List.forall_mem_cons.mpr ⟨lw_p33, List.forall_mem_cons.mpr ⟨lw_p34, List.forall_mem_cons.mpr ⟨lw_p35, List.forall_mem_cons.mpr ⟨lw_p36, List.forall_mem_cons.mpr ⟨lw_p37, List.forall_mem_cons.mpr ⟨lw_p38, List.forall_mem_cons.mpr ⟨lw_p39, List.forall_mem_cons.mpr ⟨lw_p40, List.forall_mem_cons.mpr ⟨lw_p41, List.forall_mem_cons.mpr ⟨lw_p42, List.forall_mem_cons.mpr ⟨lw_p43, List.forall_mem_cons.mpr ⟨lw_p44, List.forall_mem_cons.mpr ⟨lw_p45, List.forall_mem_cons.mpr ⟨lw_p46, List.forall_mem_cons.mpr ⟨lw_p47, fun _ h => absurd h List.not_mem_nil⟩⟩⟩⟩⟩⟩⟩⟩⟩⟩⟩⟩⟩⟩⟩⟩
theorem lw_p48 : lw_okq (⟨"ConeFormsModel", "wrongPart", "()I"⟩, 36) := ⟨⟨by decide +kernel, by decide +kernel⟩, List.mem_of_getElem? (i := 1075) (by decide +kernel), List.mem_of_getElem? (i := 1348) (by decide +kernel), List.mem_of_getElem? (i := 1349) (by decide +kernel)⟩
theorem lw_p49 : lw_okq (⟨"ConeFormsModel", "good", "(II)Z"⟩, 36) := ⟨⟨by decide +kernel, by decide +kernel⟩, List.mem_of_getElem? (i := 1075) (by decide +kernel), List.mem_of_getElem? (i := 1352) (by decide +kernel), List.mem_of_getElem? (i := 1353) (by decide +kernel)⟩
theorem lw_p50 : lw_okq (⟨"ConeFormsModel", "mark", "()V"⟩, 36) := ⟨⟨by decide +kernel, by decide +kernel⟩, List.mem_of_getElem? (i := 1075) (by decide +kernel), List.mem_of_getElem? (i := 1356) (by decide +kernel), List.mem_of_getElem? (i := 1357) (by decide +kernel)⟩
theorem lw_p51 : lw_okq (⟨"ConeFormsModel", "columns", "()I"⟩, 36) := ⟨⟨by decide +kernel, by decide +kernel⟩, List.mem_of_getElem? (i := 1075) (by decide +kernel), List.mem_of_getElem? (i := 1360) (by decide +kernel), List.mem_of_getElem? (i := 1361) (by decide +kernel)⟩
theorem lw_p52 : lw_okq (⟨"ConeFormsModel", "variable", "(I)Z"⟩, 36) := ⟨⟨by decide +kernel, by decide +kernel⟩, List.mem_of_getElem? (i := 1075) (by decide +kernel), List.mem_of_getElem? (i := 1364) (by decide +kernel), List.mem_of_getElem? (i := 1365) (by decide +kernel)⟩
theorem lw_p53 : lw_okq (⟨"ConeFormsModel", "auxiliary", "(I)Z"⟩, 36) := ⟨⟨by decide +kernel, by decide +kernel⟩, List.mem_of_getElem? (i := 1075) (by decide +kernel), List.mem_of_getElem? (i := 1368) (by decide +kernel), List.mem_of_getElem? (i := 1369) (by decide +kernel)⟩
theorem lw_p54 : lw_okq (⟨"ConeFormsModel", "place", "(I)I"⟩, 36) := ⟨⟨by decide +kernel, by decide +kernel⟩, List.mem_of_getElem? (i := 1075) (by decide +kernel), List.mem_of_getElem? (i := 1376) (by decide +kernel), List.mem_of_getElem? (i := 1377) (by decide +kernel)⟩
theorem lw_p55 : lw_okq (⟨"ConeFormsModel", "rowCount", "(I)I"⟩, 36) := ⟨⟨by decide +kernel, by decide +kernel⟩, List.mem_of_getElem? (i := 1075) (by decide +kernel), List.mem_of_getElem? (i := 1384) (by decide +kernel), List.mem_of_getElem? (i := 1385) (by decide +kernel)⟩
theorem lw_p56 : lw_okq (⟨"ConeFormsModel", "allRows", "()I"⟩, 36) := ⟨⟨by decide +kernel, by decide +kernel⟩, List.mem_of_getElem? (i := 1075) (by decide +kernel), List.mem_of_getElem? (i := 1395) (by decide +kernel), List.mem_of_getElem? (i := 1396) (by decide +kernel)⟩
theorem lw_p57 : lw_okq (⟨"ConeFormsModel", "expand", "(I)V"⟩, 36) := ⟨⟨by decide +kernel, by decide +kernel⟩, List.mem_of_getElem? (i := 1075) (by decide +kernel), List.mem_of_getElem? (i := 1399) (by decide +kernel), List.mem_of_getElem? (i := 1400) (by decide +kernel)⟩
theorem lw_p58 : lw_okq (⟨"ConeFormsModel", "chosen", "(II)J"⟩, 36) := ⟨⟨by decide +kernel, by decide +kernel⟩, List.mem_of_getElem? (i := 1075) (by decide +kernel), List.mem_of_getElem? (i := 1403) (by decide +kernel), List.mem_of_getElem? (i := 1404) (by decide +kernel)⟩
theorem lw_p59 : lw_okq (⟨"ConeFormsModel", "rowValue", "(I)J"⟩, 36) := ⟨⟨by decide +kernel, by decide +kernel⟩, List.mem_of_getElem? (i := 1075) (by decide +kernel), List.mem_of_getElem? (i := 1407) (by decide +kernel), List.mem_of_getElem? (i := 1408) (by decide +kernel)⟩
theorem lw_p60 : lw_okq (⟨"ConeFormsModel", "rowOf", "(II)J"⟩, 36) := ⟨⟨by decide +kernel, by decide +kernel⟩, List.mem_of_getElem? (i := 1075) (by decide +kernel), List.mem_of_getElem? (i := 1411) (by decide +kernel), List.mem_of_getElem? (i := 1412) (by decide +kernel)⟩
def lw_privs_4 : List (MethodName × Nat) := [(⟨"ConeFormsModel", "wrongPart", "()I"⟩, 36), (⟨"ConeFormsModel", "good", "(II)Z"⟩, 36), (⟨"ConeFormsModel", "mark", "()V"⟩, 36), (⟨"ConeFormsModel", "columns", "()I"⟩, 36), (⟨"ConeFormsModel", "variable", "(I)Z"⟩, 36), (⟨"ConeFormsModel", "auxiliary", "(I)Z"⟩, 36), (⟨"ConeFormsModel", "place", "(I)I"⟩, 36), (⟨"ConeFormsModel", "rowCount", "(I)I"⟩, 36), (⟨"ConeFormsModel", "allRows", "()I"⟩, 36), (⟨"ConeFormsModel", "expand", "(I)V"⟩, 36), (⟨"ConeFormsModel", "chosen", "(II)J"⟩, 36), (⟨"ConeFormsModel", "rowValue", "(I)J"⟩, 36), (⟨"ConeFormsModel", "rowOf", "(II)J"⟩, 36)]
theorem lw_r4 : ∀ q ∈ lw_privs_4, lw_okq q := List.forall_mem_cons.mpr ⟨lw_p48, List.forall_mem_cons.mpr ⟨lw_p49, List.forall_mem_cons.mpr ⟨lw_p50, List.forall_mem_cons.mpr ⟨lw_p51, List.forall_mem_cons.mpr ⟨lw_p52, List.forall_mem_cons.mpr ⟨lw_p53, List.forall_mem_cons.mpr ⟨lw_p54, List.forall_mem_cons.mpr ⟨lw_p55, List.forall_mem_cons.mpr ⟨lw_p56, List.forall_mem_cons.mpr ⟨lw_p57, List.forall_mem_cons.mpr ⟨lw_p58, List.forall_mem_cons.mpr ⟨lw_p59, List.forall_mem_cons.mpr ⟨lw_p60, fun _ h => absurd h List.not_mem_nil⟩⟩⟩⟩⟩⟩⟩⟩⟩⟩⟩⟩⟩
def lw_privs : List (MethodName × Nat) := lw_privs_1 ++ (lw_privs_2 ++ (lw_privs_3 ++ (lw_privs_4)))
def lw_tbl : List Cond := k2_sels lw_privs ++ tables_1
theorem lw_privs_ok : ∀ q ∈ lw_privs, lw_okq q := by
  show ∀ q ∈ lw_privs_1 ++ (lw_privs_2 ++ (lw_privs_3 ++ (lw_privs_4))), lw_okq q
  exact List.forall_mem_append.mpr ⟨lw_r1, List.forall_mem_append.mpr ⟨lw_r2, List.forall_mem_append.mpr ⟨lw_r3, lw_r4⟩⟩⟩
/-- a private method that a subclass inherits, run on an object of the subclass -/
theorem sd_sel_private {C : String} {y : MethodName} {o2 n2 d2 : String} {s : State} {args : Array Value} {n : Nat} (hy : y.cls ≠ "java/lang/invoke/MethodHandle" ∧ y.cls ≠ "java/lang/invoke/VarHandle")
    (hins : (Cond.instantiable C n).before args s = true) (hsame : (Cond.sameMethod y.cls o2 n2 d2).before args s = true) (hpriv : (Cond.privateMethod y).before args s = true) (hinst : (Cond.instanceMethod y).before args s = true) :
    (Cond.selects C y y).before args s = true := by
  obtain ⟨c, k, hc, hk, -, -, -, -⟩ := Cond.instantiable_spec hins
  obtain ⟨cn, ck, r1, hcn, hck, hni, hf, hn1⟩ := Cond.sameMethod_found hsame
  obtain ⟨mk, methM, hnamed, hmethM, -, -⟩ := Cond.instanceMethod_spec hinst
  have hfound : s.methodFound? y.cls y.name y.desc = some mk := State.methodFound?_of_named hnamed hy
  have hcls : mk.cls = cn := Option.some.inj ((findClass_of_methodNamed hnamed).symm.trans hcn)
  have hsel : selectMethod {} s.vm c mk = .method mk := selectMethod_private hmethM (Cond.privateMethod_at hpriv mk methM hnamed hmethM)
  simp only [Cond.before, Cond.holds, Cond.value, hc, hfound, hnamed, hsel, hcls, hck]
  simp; exact hni
def sd_sels : List Cond := [Cond.selects "java/lang/StringBuilder" (⟨"java/lang/AbstractStringBuilder", "ensureCapacityInternal", "(I)V"⟩ : MethodName) (⟨"java/lang/AbstractStringBuilder", "ensureCapacityInternal", "(I)V"⟩ : MethodName), Cond.selects "java/lang/StringBuilder" (⟨"java/lang/AbstractStringBuilder", "newCapacity", "(I)I"⟩ : MethodName) (⟨"java/lang/AbstractStringBuilder", "newCapacity", "(I)I"⟩ : MethodName)]
def lw_all : List Cond := sd_sels ++ lw_tbl
def gws : List Cond := lw_all.filter goodWord
theorem tm {w : Cond} (i : Nat) (h : tables_1[i]? = some w) : w ∈ tables_1 := List.mem_of_getElem? h
theorem gm {w : Cond} (h : w ∈ tables_1) (hg : goodWord w = true) : w ∈ gws := List.mem_filter.mpr ⟨List.mem_append_right _ (List.mem_append_right _ h), hg⟩
theorem gmi {w : Cond} (i : Nat) (h : tables_1[i]? = some w) (hg : goodWord w = true) : w ∈ gws := gm (tm i h) hg
theorem tc1 {w : Cond} (h : w ∈ tables_1_1) : w ∈ tables_1 := (List.mem_append_left _ h)
theorem gmc1 {w : Cond} (i : Nat) (h : tables_1_1[i]? = some w) (hg : goodWord w = true) : w ∈ gws := gm (tc1 (List.mem_of_getElem? h)) hg
theorem tc2 {w : Cond} (h : w ∈ tables_1_2) : w ∈ tables_1 := (List.mem_append_right _ (List.mem_append_left _ h))
theorem gmc2 {w : Cond} (i : Nat) (h : tables_1_2[i]? = some w) (hg : goodWord w = true) : w ∈ gws := gm (tc2 (List.mem_of_getElem? h)) hg
theorem tc3 {w : Cond} (h : w ∈ tables_1_3) : w ∈ tables_1 := (List.mem_append_right _ (List.mem_append_right _ (List.mem_append_left _ h)))
theorem gmc3 {w : Cond} (i : Nat) (h : tables_1_3[i]? = some w) (hg : goodWord w = true) : w ∈ gws := gm (tc3 (List.mem_of_getElem? h)) hg
theorem tc4 {w : Cond} (h : w ∈ tables_1_4) : w ∈ tables_1 := (List.mem_append_right _ (List.mem_append_right _ (List.mem_append_right _ (List.mem_append_left _ h))))
theorem gmc4 {w : Cond} (i : Nat) (h : tables_1_4[i]? = some w) (hg : goodWord w = true) : w ∈ gws := gm (tc4 (List.mem_of_getElem? h)) hg
theorem tc5 {w : Cond} (h : w ∈ tables_1_5) : w ∈ tables_1 := (List.mem_append_right _ (List.mem_append_right _ (List.mem_append_right _ (List.mem_append_right _ (List.mem_append_left _ h)))))
theorem gmc5 {w : Cond} (i : Nat) (h : tables_1_5[i]? = some w) (hg : goodWord w = true) : w ∈ gws := gm (tc5 (List.mem_of_getElem? h)) hg
theorem tc6 {w : Cond} (h : w ∈ tables_1_6) : w ∈ tables_1 := (List.mem_append_right _ (List.mem_append_right _ (List.mem_append_right _ (List.mem_append_right _ (List.mem_append_right _ (List.mem_append_left _ h))))))
theorem gmc6 {w : Cond} (i : Nat) (h : tables_1_6[i]? = some w) (hg : goodWord w = true) : w ∈ gws := gm (tc6 (List.mem_of_getElem? h)) hg
theorem tc7 {w : Cond} (h : w ∈ tables_1_7) : w ∈ tables_1 := (List.mem_append_right _ (List.mem_append_right _ (List.mem_append_right _ (List.mem_append_right _ (List.mem_append_right _ (List.mem_append_right _ h))))))
theorem gmc7 {w : Cond} (i : Nat) (h : tables_1_7[i]? = some w) (hg : goodWord w = true) : w ∈ gws := gm (tc7 (List.mem_of_getElem? h)) hg
theorem gmp {w : Cond} (h : w ∈ k2_sels lw_privs) (hg : goodWord w = true) : w ∈ gws := List.mem_filter.mpr ⟨List.mem_append_right _ (List.mem_append_left _ h), hg⟩
theorem gms {w : Cond} (h : w ∈ sd_sels) (hg : goodWord w = true) : w ∈ gws := List.mem_filter.mpr ⟨List.mem_append_left _ h, hg⟩
theorem lw_all_of {args : Array Value} {s : State} (h : ∀ w ∈ lw_tbl, w.before args s = true) : ∀ w ∈ lw_all, w.before args s = true := by
  have ht : ∀ w ∈ tables_1, w.before args s = true := fun w hw => h w (List.mem_append_right _ hw)
  refine List.forall_mem_append.mpr ⟨?_, h⟩
  exact List.forall_mem_cons.mpr ⟨sd_sel_private (y := (⟨"java/lang/AbstractStringBuilder", "ensureCapacityInternal", "(I)V"⟩ : MethodName)) (n := 4) (by decide +kernel) (ht _ (tm 37 (by decide +kernel))) (ht (Cond.sameMethod "java/lang/AbstractStringBuilder" "java/lang/AbstractStringBuilder" "isLatin1" "()Z") (tm 263 (by decide +kernel))) (ht _ (tm 227 (by decide +kernel))) (ht _ (tm 228 (by decide +kernel))), List.forall_mem_cons.mpr ⟨sd_sel_private (y := (⟨"java/lang/AbstractStringBuilder", "newCapacity", "(I)I"⟩ : MethodName)) (n := 4) (by decide +kernel) (ht _ (tm 37 (by decide +kernel))) (ht (Cond.sameMethod "java/lang/AbstractStringBuilder" "java/lang/AbstractStringBuilder" "isLatin1" "()Z") (tm 263 (by decide +kernel))) (ht _ (tm 231 (by decide +kernel))) (ht _ (tm 232 (by decide +kernel))), fun _ h => absurd h List.not_mem_nil⟩⟩
def F_0 : u_T := fun k => match k with
  | 0 => ("java/lang/AbstractStringBuilder", "value", "[B", false)
  | 1 => ("java/lang/AbstractStringBuilder", "coder", "B", false)
  | 2 => ("java/lang/AbstractStringBuilder", "maybeLatin1", "Z", false)
  | _ => ("java/lang/AbstractStringBuilder", "count", "I", false)
def t_0 : Nat → FieldType := fun k => match k with
  | 0 => .array .byte
  | 1 => .byte
  | 2 => .boolean
  | _ => .int
theorem n_0 : ∀ a, a < 4 → ∀ b, b < 4 → a ≠ b → (F_0 a).2.1 ≠ (F_0 b).2.1 := by decide +kernel
theorem t_0_ok : ∀ k, k < 4 → parseFieldDescriptor (F_0 k).2.2.1 = some (t_0 k) := by decide +kernel
theorem i_0 : ∀ w ∈ u_ws "java/lang/StringBuilder" F_0 4, w ∈ gws := by
  show ∀ w ∈ [u_lay "java/lang/StringBuilder" F_0 0, u_lay "java/lang/StringBuilder" F_0 1, u_lay "java/lang/StringBuilder" F_0 2, u_lay "java/lang/StringBuilder" F_0 3], w ∈ gws
  exact List.forall_mem_cons.mpr ⟨gmc1 58 (by decide +kernel) rfl, List.forall_mem_cons.mpr ⟨gmc1 60 (by decide +kernel) rfl, List.forall_mem_cons.mpr ⟨gmc1 62 (by decide +kernel) rfl, List.forall_mem_cons.mpr ⟨gmc1 64 (by decide +kernel) rfl, fun _ h => absurd h List.not_mem_nil⟩⟩⟩⟩
def F_1 : u_T := fun k => match k with
  | 0 => ("ConeForms$Scanner", "text", "Ljava/lang/StringBuilder;", true)
  | 1 => ("ConeForms$Scanner", "at", "I", false)
  | 2 => ("ConeForms$Scanner", "operand", "Z", false)
  | 3 => ("ConeForms$Scanner", "steps", "I", false)
  | 4 => ("ConeForms$Scanner", "kinds", "[LConeForms$Kind;", true)
  | 5 => ("ConeForms$Scanner", "data", "[I", true)
  | 6 => ("ConeForms$Scanner", "open", "[C", true)
  | 7 => ("ConeForms$Scanner", "wants", "[I", true)
  | _ => ("ConeForms$Scanner", "top", "I", false)
def t_1 : Nat → FieldType := fun k => match k with
  | 0 => .object "java/lang/StringBuilder"
  | 1 => .int
  | 2 => .boolean
  | 3 => .int
  | 4 => .array (.object "ConeForms$Kind")
  | 5 => .array .int
  | 6 => .array .char
  | 7 => .array .int
  | _ => .int
theorem n_1 : ∀ a, a < 9 → ∀ b, b < 9 → a ≠ b → (F_1 a).2.1 ≠ (F_1 b).2.1 := by decide +kernel
theorem t_1_ok : ∀ k, k < 9 → parseFieldDescriptor (F_1 k).2.2.1 = some (t_1 k) := by decide +kernel
theorem i_1 : ∀ w ∈ u_ws "ConeForms$Scanner" F_1 9, w ∈ gws := by
  show ∀ w ∈ [u_lay "ConeForms$Scanner" F_1 0, u_lay "ConeForms$Scanner" F_1 1, u_lay "ConeForms$Scanner" F_1 2, u_lay "ConeForms$Scanner" F_1 3, u_lay "ConeForms$Scanner" F_1 4, u_lay "ConeForms$Scanner" F_1 5, u_lay "ConeForms$Scanner" F_1 6, u_lay "ConeForms$Scanner" F_1 7, u_lay "ConeForms$Scanner" F_1 8], w ∈ gws
  exact List.forall_mem_cons.mpr ⟨gmc1 89 (by decide +kernel) rfl, List.forall_mem_cons.mpr ⟨gmc1 91 (by decide +kernel) rfl, List.forall_mem_cons.mpr ⟨gmc1 93 (by decide +kernel) rfl, List.forall_mem_cons.mpr ⟨gmc1 95 (by decide +kernel) rfl, List.forall_mem_cons.mpr ⟨gmc1 97 (by decide +kernel) rfl, List.forall_mem_cons.mpr ⟨gmc1 99 (by decide +kernel) rfl, List.forall_mem_cons.mpr ⟨gmc1 101 (by decide +kernel) rfl, List.forall_mem_cons.mpr ⟨gmc1 103 (by decide +kernel) rfl, List.forall_mem_cons.mpr ⟨gmc1 105 (by decide +kernel) rfl, fun _ h => absurd h List.not_mem_nil⟩⟩⟩⟩⟩⟩⟩⟩⟩
def F_2 : u_T := fun k => match k with
  | 0 => ("java/util/ArrayList", "elementData", "[Ljava/lang/Object;", false)
  | 1 => ("java/util/ArrayList", "size", "I", false)
  | _ => ("java/util/AbstractList", "modCount", "I", false)
def t_2 : Nat → FieldType := fun k => match k with
  | 0 => .array (.object "java/lang/Object")
  | 1 => .int
  | _ => .int
theorem n_2 : ∀ a, a < 3 → ∀ b, b < 3 → a ≠ b → (F_2 a).2.1 ≠ (F_2 b).2.1 := by decide +kernel
theorem t_2_ok : ∀ k, k < 3 → parseFieldDescriptor (F_2 k).2.2.1 = some (t_2 k) := by decide +kernel
theorem i_2 : ∀ w ∈ u_ws "java/util/ArrayList" F_2 3, w ∈ gws := by
  show ∀ w ∈ [u_lay "java/util/ArrayList" F_2 0, u_lay "java/util/ArrayList" F_2 1, u_lay "java/util/ArrayList" F_2 2], w ∈ gws
  exact List.forall_mem_cons.mpr ⟨gmc1 132 (by decide +kernel) rfl, List.forall_mem_cons.mpr ⟨gmc1 134 (by decide +kernel) rfl, List.forall_mem_cons.mpr ⟨gmc1 136 (by decide +kernel) rfl, fun _ h => absurd h List.not_mem_nil⟩⟩⟩
def F_3 : u_T := fun k => match k with
  | 0 => ("ConeForms$Table", "numbers", "[I", true)
  | _ => ("ConeForms$Table", "constants", "[I", true)
def t_3 : Nat → FieldType := fun k => match k with
  | 0 => .array .int
  | _ => .array .int
theorem n_3 : ∀ a, a < 2 → ∀ b, b < 2 → a ≠ b → (F_3 a).2.1 ≠ (F_3 b).2.1 := by decide +kernel
theorem t_3_ok : ∀ k, k < 2 → parseFieldDescriptor (F_3 k).2.2.1 = some (t_3 k) := by decide +kernel
theorem i_3 : ∀ w ∈ u_ws "ConeForms$Table" F_3 2, w ∈ gws := by
  show ∀ w ∈ [u_lay "ConeForms$Table" F_3 0, u_lay "ConeForms$Table" F_3 1], w ∈ gws
  exact List.forall_mem_cons.mpr ⟨gmc1 151 (by decide +kernel) rfl, List.forall_mem_cons.mpr ⟨gmc1 153 (by decide +kernel) rfl, fun _ h => absurd h List.not_mem_nil⟩⟩
def F_4 : u_T := fun k => match k with
  | 0 => ("ConeForms", "line", "Ljava/lang/StringBuilder;", true)
  | 1 => ("ConeForms", "scanner", "LConeForms$Scanner;", true)
  | 2 => ("ConeForms", "refused", "Z", false)
  | 3 => ("ConeForms", "refusal", "I", false)
  | 4 => ("ConeForms", "nodes", "Ljava/util/ArrayList;", true)
  | 5 => ("ConeForms", "operands", "[LConeForms$Node;", true)
  | 6 => ("ConeForms", "goal", "LConeForms$Node;", false)
  | 7 => ("ConeForms", "toLeast", "Z", false)
  | 8 => ("ConeForms", "head", "LConeForms$Requirement;", false)
  | 9 => ("ConeForms", "requirements", "I", false)
  | 10 => ("ConeForms", "stands", "Z", false)
  | 11 => ("ConeForms", "columns", "Ljava/util/ArrayList;", true)
  | 12 => ("ConeForms", "expansions", "LConeForms$Table;", true)
  | 13 => ("ConeForms", "table", "LConeForms$Table;", true)
  | 14 => ("ConeForms", "zeroRows", "I", false)
  | 15 => ("ConeForms", "plainRows", "I", false)
  | _ => ("ConeForms", "allRows", "I", false)
def t_4 : Nat → FieldType := fun k => match k with
  | 0 => .object "java/lang/StringBuilder"
  | 1 => .object "ConeForms$Scanner"
  | 2 => .boolean
  | 3 => .int
  | 4 => .object "java/util/ArrayList"
  | 5 => .array (.object "ConeForms$Node")
  | 6 => .object "ConeForms$Node"
  | 7 => .boolean
  | 8 => .object "ConeForms$Requirement"
  | 9 => .int
  | 10 => .boolean
  | 11 => .object "java/util/ArrayList"
  | 12 => .object "ConeForms$Table"
  | 13 => .object "ConeForms$Table"
  | 14 => .int
  | 15 => .int
  | _ => .int
theorem n_4 : ∀ a, a < 17 → ∀ b, b < 17 → a ≠ b → (F_4 a).2.1 ≠ (F_4 b).2.1 := by decide +kernel
theorem t_4_ok : ∀ k, k < 17 → parseFieldDescriptor (F_4 k).2.2.1 = some (t_4 k) := by decide +kernel
theorem i_4 : ∀ w ∈ u_ws "ConeForms" F_4 17, w ∈ gws := by
  show ∀ w ∈ [u_lay "ConeForms" F_4 0, u_lay "ConeForms" F_4 1, u_lay "ConeForms" F_4 2, u_lay "ConeForms" F_4 3, u_lay "ConeForms" F_4 4, u_lay "ConeForms" F_4 5, u_lay "ConeForms" F_4 6, u_lay "ConeForms" F_4 7, u_lay "ConeForms" F_4 8, u_lay "ConeForms" F_4 9, u_lay "ConeForms" F_4 10, u_lay "ConeForms" F_4 11, u_lay "ConeForms" F_4 12, u_lay "ConeForms" F_4 13, u_lay "ConeForms" F_4 14, u_lay "ConeForms" F_4 15, u_lay "ConeForms" F_4 16], w ∈ gws
  exact List.forall_mem_cons.mpr ⟨gmc1 173 (by decide +kernel) rfl, List.forall_mem_cons.mpr ⟨gmc1 175 (by decide +kernel) rfl, List.forall_mem_cons.mpr ⟨gmc1 177 (by decide +kernel) rfl, List.forall_mem_cons.mpr ⟨gmc1 179 (by decide +kernel) rfl, List.forall_mem_cons.mpr ⟨gmc1 181 (by decide +kernel) rfl, List.forall_mem_cons.mpr ⟨gmc1 183 (by decide +kernel) rfl, List.forall_mem_cons.mpr ⟨gmc1 185 (by decide +kernel) rfl, List.forall_mem_cons.mpr ⟨gmc1 187 (by decide +kernel) rfl, List.forall_mem_cons.mpr ⟨gmc1 189 (by decide +kernel) rfl, List.forall_mem_cons.mpr ⟨gmc1 191 (by decide +kernel) rfl, List.forall_mem_cons.mpr ⟨gmc1 193 (by decide +kernel) rfl, List.forall_mem_cons.mpr ⟨gmc1 195 (by decide +kernel) rfl, List.forall_mem_cons.mpr ⟨gmc1 197 (by decide +kernel) rfl, List.forall_mem_cons.mpr ⟨gmc1 199 (by decide +kernel) rfl, List.forall_mem_cons.mpr ⟨gmc1 201 (by decide +kernel) rfl, List.forall_mem_cons.mpr ⟨gmc1 203 (by decide +kernel) rfl, List.forall_mem_cons.mpr ⟨gmc1 205 (by decide +kernel) rfl, fun _ h => absurd h List.not_mem_nil⟩⟩⟩⟩⟩⟩⟩⟩⟩⟩⟩⟩⟩⟩⟩⟩⟩
def F_5 : u_T := fun k => match k with
  | 0 => ("ConeForms$Node", "kind", "LConeForms$Kind;", true)
  | 1 => ("ConeForms$Node", "data", "I", true)
  | 2 => ("ConeForms$Node", "a", "LConeForms$Node;", true)
  | 3 => ("ConeForms$Node", "b", "LConeForms$Node;", true)
  | 4 => ("ConeForms$Node", "c", "LConeForms$Node;", true)
  | 5 => ("ConeForms$Node", "index", "I", false)
  | 6 => ("ConeForms$Node", "value", "I", false)
  | 7 => ("ConeForms$Node", "reach", "I", false)
  | 8 => ("ConeForms$Node", "signs", "I", false)
  | 9 => ("ConeForms$Node", "curvature", "I", false)
  | 10 => ("ConeForms$Node", "blame", "I", false)
  | 11 => ("ConeForms$Node", "column", "I", false)
  | 12 => ("ConeForms$Node", "used", "Z", false)
  | _ => ("ConeForms$Node", "seen", "Z", false)
def t_5 : Nat → FieldType := fun k => match k with
  | 0 => .object "ConeForms$Kind"
  | 1 => .int
  | 2 => .object "ConeForms$Node"
  | 3 => .object "ConeForms$Node"
  | 4 => .object "ConeForms$Node"
  | 5 => .int
  | 6 => .int
  | 7 => .int
  | 8 => .int
  | 9 => .int
  | 10 => .int
  | 11 => .int
  | 12 => .boolean
  | _ => .boolean
theorem n_5 : ∀ a, a < 14 → ∀ b, b < 14 → a ≠ b → (F_5 a).2.1 ≠ (F_5 b).2.1 := by decide +kernel
theorem t_5_ok : ∀ k, k < 14 → parseFieldDescriptor (F_5 k).2.2.1 = some (t_5 k) := by decide +kernel
theorem i_5 : ∀ w ∈ u_ws "ConeForms$Leaf" F_5 14, w ∈ gws := by
  show ∀ w ∈ [u_lay "ConeForms$Leaf" F_5 0, u_lay "ConeForms$Leaf" F_5 1, u_lay "ConeForms$Leaf" F_5 2, u_lay "ConeForms$Leaf" F_5 3, u_lay "ConeForms$Leaf" F_5 4, u_lay "ConeForms$Leaf" F_5 5, u_lay "ConeForms$Leaf" F_5 6, u_lay "ConeForms$Leaf" F_5 7, u_lay "ConeForms$Leaf" F_5 8, u_lay "ConeForms$Leaf" F_5 9, u_lay "ConeForms$Leaf" F_5 10, u_lay "ConeForms$Leaf" F_5 11, u_lay "ConeForms$Leaf" F_5 12, u_lay "ConeForms$Leaf" F_5 13], w ∈ gws
  exact List.forall_mem_cons.mpr ⟨gmc3 48 (by decide +kernel) rfl, List.forall_mem_cons.mpr ⟨gmc3 50 (by decide +kernel) rfl, List.forall_mem_cons.mpr ⟨gmc3 52 (by decide +kernel) rfl, List.forall_mem_cons.mpr ⟨gmc3 54 (by decide +kernel) rfl, List.forall_mem_cons.mpr ⟨gmc3 56 (by decide +kernel) rfl, List.forall_mem_cons.mpr ⟨gmc3 58 (by decide +kernel) rfl, List.forall_mem_cons.mpr ⟨gmc3 60 (by decide +kernel) rfl, List.forall_mem_cons.mpr ⟨gmc3 62 (by decide +kernel) rfl, List.forall_mem_cons.mpr ⟨gmc3 64 (by decide +kernel) rfl, List.forall_mem_cons.mpr ⟨gmc3 66 (by decide +kernel) rfl, List.forall_mem_cons.mpr ⟨gmc3 68 (by decide +kernel) rfl, List.forall_mem_cons.mpr ⟨gmc3 70 (by decide +kernel) rfl, List.forall_mem_cons.mpr ⟨gmc3 72 (by decide +kernel) rfl, List.forall_mem_cons.mpr ⟨gmc3 74 (by decide +kernel) rfl, fun _ h => absurd h List.not_mem_nil⟩⟩⟩⟩⟩⟩⟩⟩⟩⟩⟩⟩⟩⟩
def F_6 : u_T := fun k => match k with
  | 0 => ("ConeForms$Node", "kind", "LConeForms$Kind;", true)
  | 1 => ("ConeForms$Node", "data", "I", true)
  | 2 => ("ConeForms$Node", "a", "LConeForms$Node;", true)
  | 3 => ("ConeForms$Node", "b", "LConeForms$Node;", true)
  | 4 => ("ConeForms$Node", "c", "LConeForms$Node;", true)
  | 5 => ("ConeForms$Node", "index", "I", false)
  | 6 => ("ConeForms$Node", "value", "I", false)
  | 7 => ("ConeForms$Node", "reach", "I", false)
  | 8 => ("ConeForms$Node", "signs", "I", false)
  | 9 => ("ConeForms$Node", "curvature", "I", false)
  | 10 => ("ConeForms$Node", "blame", "I", false)
  | 11 => ("ConeForms$Node", "column", "I", false)
  | 12 => ("ConeForms$Node", "used", "Z", false)
  | 13 => ("ConeForms$Node", "seen", "Z", false)
  | _ => ("ConeForms$Bend", "own", "I", false)
def t_6 : Nat → FieldType := fun k => match k with
  | 0 => .object "ConeForms$Kind"
  | 1 => .int
  | 2 => .object "ConeForms$Node"
  | 3 => .object "ConeForms$Node"
  | 4 => .object "ConeForms$Node"
  | 5 => .int
  | 6 => .int
  | 7 => .int
  | 8 => .int
  | 9 => .int
  | 10 => .int
  | 11 => .int
  | 12 => .boolean
  | 13 => .boolean
  | _ => .int
theorem n_6 : ∀ a, a < 15 → ∀ b, b < 15 → a ≠ b → (F_6 a).2.1 ≠ (F_6 b).2.1 := by decide +kernel
theorem t_6_ok : ∀ k, k < 15 → parseFieldDescriptor (F_6 k).2.2.1 = some (t_6 k) := by decide +kernel
theorem i_6 : ∀ w ∈ u_ws "ConeForms$Bend" F_6 15, w ∈ gws := by
  show ∀ w ∈ [u_lay "ConeForms$Bend" F_6 0, u_lay "ConeForms$Bend" F_6 1, u_lay "ConeForms$Bend" F_6 2, u_lay "ConeForms$Bend" F_6 3, u_lay "ConeForms$Bend" F_6 4, u_lay "ConeForms$Bend" F_6 5, u_lay "ConeForms$Bend" F_6 6, u_lay "ConeForms$Bend" F_6 7, u_lay "ConeForms$Bend" F_6 8, u_lay "ConeForms$Bend" F_6 9, u_lay "ConeForms$Bend" F_6 10, u_lay "ConeForms$Bend" F_6 11, u_lay "ConeForms$Bend" F_6 12, u_lay "ConeForms$Bend" F_6 13, u_lay "ConeForms$Bend" F_6 14], w ∈ gws
  exact List.forall_mem_cons.mpr ⟨gmc3 88 (by decide +kernel) rfl, List.forall_mem_cons.mpr ⟨gmc3 89 (by decide +kernel) rfl, List.forall_mem_cons.mpr ⟨gmc3 90 (by decide +kernel) rfl, List.forall_mem_cons.mpr ⟨gmc3 91 (by decide +kernel) rfl, List.forall_mem_cons.mpr ⟨gmc3 92 (by decide +kernel) rfl, List.forall_mem_cons.mpr ⟨gmc3 93 (by decide +kernel) rfl, List.forall_mem_cons.mpr ⟨gmc3 94 (by decide +kernel) rfl, List.forall_mem_cons.mpr ⟨gmc3 95 (by decide +kernel) rfl, List.forall_mem_cons.mpr ⟨gmc3 96 (by decide +kernel) rfl, List.forall_mem_cons.mpr ⟨gmc3 97 (by decide +kernel) rfl, List.forall_mem_cons.mpr ⟨gmc3 98 (by decide +kernel) rfl, List.forall_mem_cons.mpr ⟨gmc3 99 (by decide +kernel) rfl, List.forall_mem_cons.mpr ⟨gmc3 100 (by decide +kernel) rfl, List.forall_mem_cons.mpr ⟨gmc3 101 (by decide +kernel) rfl, List.forall_mem_cons.mpr ⟨gmc3 86 (by decide +kernel) rfl, fun _ h => absurd h List.not_mem_nil⟩⟩⟩⟩⟩⟩⟩⟩⟩⟩⟩⟩⟩⟩⟩
def F_7 : u_T := fun k => match k with
  | 0 => ("ConeForms$Node", "kind", "LConeForms$Kind;", true)
  | 1 => ("ConeForms$Node", "data", "I", true)
  | 2 => ("ConeForms$Node", "a", "LConeForms$Node;", true)
  | 3 => ("ConeForms$Node", "b", "LConeForms$Node;", true)
  | 4 => ("ConeForms$Node", "c", "LConeForms$Node;", true)
  | 5 => ("ConeForms$Node", "index", "I", false)
  | 6 => ("ConeForms$Node", "value", "I", false)
  | 7 => ("ConeForms$Node", "reach", "I", false)
  | 8 => ("ConeForms$Node", "signs", "I", false)
  | 9 => ("ConeForms$Node", "curvature", "I", false)
  | 10 => ("ConeForms$Node", "blame", "I", false)
  | 11 => ("ConeForms$Node", "column", "I", false)
  | 12 => ("ConeForms$Node", "used", "Z", false)
  | _ => ("ConeForms$Node", "seen", "Z", false)
def t_7 : Nat → FieldType := fun k => match k with
  | 0 => .object "ConeForms$Kind"
  | 1 => .int
  | 2 => .object "ConeForms$Node"
  | 3 => .object "ConeForms$Node"
  | 4 => .object "ConeForms$Node"
  | 5 => .int
  | 6 => .int
  | 7 => .int
  | 8 => .int
  | 9 => .int
  | 10 => .int
  | 11 => .int
  | 12 => .boolean
  | _ => .boolean
theorem n_7 : ∀ a, a < 14 → ∀ b, b < 14 → a ≠ b → (F_7 a).2.1 ≠ (F_7 b).2.1 := by decide +kernel
theorem t_7_ok : ∀ k, k < 14 → parseFieldDescriptor (F_7 k).2.2.1 = some (t_7 k) := by decide +kernel
theorem i_7 : ∀ w ∈ u_ws "ConeForms$Product" F_7 14, w ∈ gws := by
  show ∀ w ∈ [u_lay "ConeForms$Product" F_7 0, u_lay "ConeForms$Product" F_7 1, u_lay "ConeForms$Product" F_7 2, u_lay "ConeForms$Product" F_7 3, u_lay "ConeForms$Product" F_7 4, u_lay "ConeForms$Product" F_7 5, u_lay "ConeForms$Product" F_7 6, u_lay "ConeForms$Product" F_7 7, u_lay "ConeForms$Product" F_7 8, u_lay "ConeForms$Product" F_7 9, u_lay "ConeForms$Product" F_7 10, u_lay "ConeForms$Product" F_7 11, u_lay "ConeForms$Product" F_7 12, u_lay "ConeForms$Product" F_7 13], w ∈ gws
  exact List.forall_mem_cons.mpr ⟨gmc3 111 (by decide +kernel) rfl, List.forall_mem_cons.mpr ⟨gmc3 112 (by decide +kernel) rfl, List.forall_mem_cons.mpr ⟨gmc3 113 (by decide +kernel) rfl, List.forall_mem_cons.mpr ⟨gmc3 114 (by decide +kernel) rfl, List.forall_mem_cons.mpr ⟨gmc3 115 (by decide +kernel) rfl, List.forall_mem_cons.mpr ⟨gmc3 116 (by decide +kernel) rfl, List.forall_mem_cons.mpr ⟨gmc3 117 (by decide +kernel) rfl, List.forall_mem_cons.mpr ⟨gmc3 118 (by decide +kernel) rfl, List.forall_mem_cons.mpr ⟨gmc3 119 (by decide +kernel) rfl, List.forall_mem_cons.mpr ⟨gmc3 120 (by decide +kernel) rfl, List.forall_mem_cons.mpr ⟨gmc3 121 (by decide +kernel) rfl, List.forall_mem_cons.mpr ⟨gmc3 122 (by decide +kernel) rfl, List.forall_mem_cons.mpr ⟨gmc3 123 (by decide +kernel) rfl, List.forall_mem_cons.mpr ⟨gmc3 124 (by decide +kernel) rfl, fun _ h => absurd h List.not_mem_nil⟩⟩⟩⟩⟩⟩⟩⟩⟩⟩⟩⟩⟩⟩
def F_8 : u_T := fun k => match k with
  | 0 => ("ConeForms$Node", "kind", "LConeForms$Kind;", true)
  | 1 => ("ConeForms$Node", "data", "I", true)
  | 2 => ("ConeForms$Node", "a", "LConeForms$Node;", true)
  | 3 => ("ConeForms$Node", "b", "LConeForms$Node;", true)
  | 4 => ("ConeForms$Node", "c", "LConeForms$Node;", true)
  | 5 => ("ConeForms$Node", "index", "I", false)
  | 6 => ("ConeForms$Node", "value", "I", false)
  | 7 => ("ConeForms$Node", "reach", "I", false)
  | 8 => ("ConeForms$Node", "signs", "I", false)
  | 9 => ("ConeForms$Node", "curvature", "I", false)
  | 10 => ("ConeForms$Node", "blame", "I", false)
  | 11 => ("ConeForms$Node", "column", "I", false)
  | 12 => ("ConeForms$Node", "used", "Z", false)
  | _ => ("ConeForms$Node", "seen", "Z", false)
def t_8 : Nat → FieldType := fun k => match k with
  | 0 => .object "ConeForms$Kind"
  | 1 => .int
  | 2 => .object "ConeForms$Node"
  | 3 => .object "ConeForms$Node"
  | 4 => .object "ConeForms$Node"
  | 5 => .int
  | 6 => .int
  | 7 => .int
  | 8 => .int
  | 9 => .int
  | 10 => .int
  | 11 => .int
  | 12 => .boolean
  | _ => .boolean
theorem n_8 : ∀ a, a < 14 → ∀ b, b < 14 → a ≠ b → (F_8 a).2.1 ≠ (F_8 b).2.1 := by decide +kernel
theorem t_8_ok : ∀ k, k < 14 → parseFieldDescriptor (F_8 k).2.2.1 = some (t_8 k) := by decide +kernel
theorem i_8 : ∀ w ∈ u_ws "ConeForms$Linear" F_8 14, w ∈ gws := by
  show ∀ w ∈ [u_lay "ConeForms$Linear" F_8 0, u_lay "ConeForms$Linear" F_8 1, u_lay "ConeForms$Linear" F_8 2, u_lay "ConeForms$Linear" F_8 3, u_lay "ConeForms$Linear" F_8 4, u_lay "ConeForms$Linear" F_8 5, u_lay "ConeForms$Linear" F_8 6, u_lay "ConeForms$Linear" F_8 7, u_lay "ConeForms$Linear" F_8 8, u_lay "ConeForms$Linear" F_8 9, u_lay "ConeForms$Linear" F_8 10, u_lay "ConeForms$Linear" F_8 11, u_lay "ConeForms$Linear" F_8 12, u_lay "ConeForms$Linear" F_8 13], w ∈ gws
  exact List.forall_mem_cons.mpr ⟨gmc3 132 (by decide +kernel) rfl, List.forall_mem_cons.mpr ⟨gmc3 133 (by decide +kernel) rfl, List.forall_mem_cons.mpr ⟨gmc3 134 (by decide +kernel) rfl, List.forall_mem_cons.mpr ⟨gmc3 135 (by decide +kernel) rfl, List.forall_mem_cons.mpr ⟨gmc3 136 (by decide +kernel) rfl, List.forall_mem_cons.mpr ⟨gmc3 137 (by decide +kernel) rfl, List.forall_mem_cons.mpr ⟨gmc3 138 (by decide +kernel) rfl, List.forall_mem_cons.mpr ⟨gmc3 139 (by decide +kernel) rfl, List.forall_mem_cons.mpr ⟨gmc3 140 (by decide +kernel) rfl, List.forall_mem_cons.mpr ⟨gmc3 141 (by decide +kernel) rfl, List.forall_mem_cons.mpr ⟨gmc3 142 (by decide +kernel) rfl, List.forall_mem_cons.mpr ⟨gmc3 143 (by decide +kernel) rfl, List.forall_mem_cons.mpr ⟨gmc3 144 (by decide +kernel) rfl, List.forall_mem_cons.mpr ⟨gmc3 145 (by decide +kernel) rfl, fun _ h => absurd h List.not_mem_nil⟩⟩⟩⟩⟩⟩⟩⟩⟩⟩⟩⟩⟩⟩
def F_9 : u_T := fun k => match k with
  | 0 => ("ConeForms$Requirement", "same", "Z", true)
  | 1 => ("ConeForms$Requirement", "a", "LConeForms$Node;", true)
  | 2 => ("ConeForms$Requirement", "b", "LConeForms$Node;", true)
  | _ => ("ConeForms$Requirement", "next", "LConeForms$Requirement;", false)
def t_9 : Nat → FieldType := fun k => match k with
  | 0 => .boolean
  | 1 => .object "ConeForms$Node"
  | 2 => .object "ConeForms$Node"
  | _ => .object "ConeForms$Requirement"
theorem n_9 : ∀ a, a < 4 → ∀ b, b < 4 → a ≠ b → (F_9 a).2.1 ≠ (F_9 b).2.1 := by decide +kernel
theorem t_9_ok : ∀ k, k < 4 → parseFieldDescriptor (F_9 k).2.2.1 = some (t_9 k) := by decide +kernel
theorem i_9 : ∀ w ∈ u_ws "ConeForms$Requirement" F_9 4, w ∈ gws := by
  show ∀ w ∈ [u_lay "ConeForms$Requirement" F_9 0, u_lay "ConeForms$Requirement" F_9 1, u_lay "ConeForms$Requirement" F_9 2, u_lay "ConeForms$Requirement" F_9 3], w ∈ gws
  exact List.forall_mem_cons.mpr ⟨gmc4 213 (by decide +kernel) rfl, List.forall_mem_cons.mpr ⟨gmc4 215 (by decide +kernel) rfl, List.forall_mem_cons.mpr ⟨gmc4 217 (by decide +kernel) rfl, List.forall_mem_cons.mpr ⟨gmc4 219 (by decide +kernel) rfl, fun _ h => absurd h List.not_mem_nil⟩⟩⟩⟩
def F_10 : u_T := fun k => match k with
  | 0 => ("java/util/ArrayList$Itr", "cursor", "I", false)
  | 1 => ("java/util/ArrayList$Itr", "lastRet", "I", false)
  | 2 => ("java/util/ArrayList$Itr", "expectedModCount", "I", false)
  | _ => ("java/util/ArrayList$Itr", "this$0", "Ljava/util/ArrayList;", true)
def t_10 : Nat → FieldType := fun k => match k with
  | 0 => .int
  | 1 => .int
  | 2 => .int
  | _ => .object "java/util/ArrayList"
theorem n_10 : ∀ a, a < 4 → ∀ b, b < 4 → a ≠ b → (F_10 a).2.1 ≠ (F_10 b).2.1 := by decide +kernel
theorem t_10_ok : ∀ k, k < 4 → parseFieldDescriptor (F_10 k).2.2.1 = some (t_10 k) := by decide +kernel
theorem i_10 : ∀ w ∈ u_ws "java/util/ArrayList$Itr" F_10 4, w ∈ gws := by
  show ∀ w ∈ [u_lay "java/util/ArrayList$Itr" F_10 0, u_lay "java/util/ArrayList$Itr" F_10 1, u_lay "java/util/ArrayList$Itr" F_10 2, u_lay "java/util/ArrayList$Itr" F_10 3], w ∈ gws
  exact List.forall_mem_cons.mpr ⟨gmc5 41 (by decide +kernel) rfl, List.forall_mem_cons.mpr ⟨gmc5 43 (by decide +kernel) rfl, List.forall_mem_cons.mpr ⟨gmc5 45 (by decide +kernel) rfl, List.forall_mem_cons.mpr ⟨gmc5 47 (by decide +kernel) rfl, fun _ h => absurd h List.not_mem_nil⟩⟩⟩⟩
def F_11 : u_T := fun k => match k with
  | 0 => ("ConeFormsModel", "line", "[I", true)
  | 1 => ("ConeFormsModel", "length", "I", false)
  | 2 => ("ConeFormsModel", "mode", "I", false)
  | 3 => ("ConeFormsModel", "digits", "I", false)
  | 4 => ("ConeFormsModel", "numberAt", "I", false)
  | 5 => ("ConeFormsModel", "tops", "I", false)
  | 6 => ("ConeFormsModel", "top", "[I", true)
  | 7 => ("ConeFormsModel", "commas", "[I", true)
  | 8 => ("ConeFormsModel", "outs", "I", false)
  | 9 => ("ConeFormsModel", "outKind", "[I", true)
  | 10 => ("ConeFormsModel", "outNumber", "[I", true)
  | 11 => ("ConeFormsModel", "taken", "[I", true)
  | 12 => ("ConeFormsModel", "count", "I", false)
  | 13 => ("ConeFormsModel", "kind", "[I", true)
  | 14 => ("ConeFormsModel", "number", "[I", true)
  | 15 => ("ConeFormsModel", "argument", "[I", true)
  | 16 => ("ConeFormsModel", "reaches", "[J", true)
  | 17 => ("ConeFormsModel", "given", "[I", true)
  | 18 => ("ConeFormsModel", "above", "[Z", true)
  | 19 => ("ConeFormsModel", "below", "[Z", true)
  | 20 => ("ConeFormsModel", "curve", "[I", true)
  | 21 => ("ConeFormsModel", "blame", "[I", true)
  | 22 => ("ConeFormsModel", "worth", "[I", true)
  | 23 => ("ConeFormsModel", "used", "[Z", true)
  | 24 => ("ConeFormsModel", "met", "[Z", true)
  | 25 => ("ConeFormsModel", "walkNode", "[I", true)
  | 26 => ("ConeFormsModel", "walkNext", "[I", true)
  | 27 => ("ConeFormsModel", "linear", "[J", true)
  | 28 => ("ConeFormsModel", "goal", "I", false)
  | 29 => ("ConeFormsModel", "goalLeast", "Z", false)
  | 30 => ("ConeFormsModel", "requirements", "I", false)
  | 31 => ("ConeFormsModel", "exact", "[Z", true)
  | 32 => ("ConeFormsModel", "left", "[I", true)
  | 33 => ("ConeFormsModel", "right", "[I", true)
  | 34 => ("ConeFormsModel", "stands", "Z", false)
  | _ => ("ConeFormsModel", "own", "[I", true)
def t_11 : Nat → FieldType := fun k => match k with
  | 0 => .array .int
  | 1 => .int
  | 2 => .int
  | 3 => .int
  | 4 => .int
  | 5 => .int
  | 6 => .array .int
  | 7 => .array .int
  | 8 => .int
  | 9 => .array .int
  | 10 => .array .int
  | 11 => .array .int
  | 12 => .int
  | 13 => .array .int
  | 14 => .array .int
  | 15 => .array .int
  | 16 => .array .long
  | 17 => .array .int
  | 18 => .array .boolean
  | 19 => .array .boolean
  | 20 => .array .int
  | 21 => .array .int
  | 22 => .array .int
  | 23 => .array .boolean
  | 24 => .array .boolean
  | 25 => .array .int
  | 26 => .array .int
  | 27 => .array .long
  | 28 => .int
  | 29 => .boolean
  | 30 => .int
  | 31 => .array .boolean
  | 32 => .array .int
  | 33 => .array .int
  | 34 => .boolean
  | _ => .array .int
theorem n_11 : ∀ a, a < 36 → ∀ b, b < 36 → a ≠ b → (F_11 a).2.1 ≠ (F_11 b).2.1 := by decide +kernel
theorem t_11_ok : ∀ k, k < 36 → parseFieldDescriptor (F_11 k).2.2.1 = some (t_11 k) := by decide +kernel
theorem i_11 : ∀ w ∈ u_ws "ConeFormsModel" F_11 36, w ∈ gws := by
  show ∀ w ∈ [u_lay "ConeFormsModel" F_11 0, u_lay "ConeFormsModel" F_11 1, u_lay "ConeFormsModel" F_11 2, u_lay "ConeFormsModel" F_11 3, u_lay "ConeFormsModel" F_11 4, u_lay "ConeFormsModel" F_11 5, u_lay "ConeFormsModel" F_11 6, u_lay "ConeFormsModel" F_11 7, u_lay "ConeFormsModel" F_11 8, u_lay "ConeFormsModel" F_11 9, u_lay "ConeFormsModel" F_11 10, u_lay "ConeFormsModel" F_11 11, u_lay "ConeFormsModel" F_11 12, u_lay "ConeFormsModel" F_11 13, u_lay "ConeFormsModel" F_11 14, u_lay "ConeFormsModel" F_11 15, u_lay "ConeFormsModel" F_11 16, u_lay "ConeFormsModel" F_11 17, u_lay "ConeFormsModel" F_11 18, u_lay "ConeFormsModel" F_11 19, u_lay "ConeFormsModel" F_11 20, u_lay "ConeFormsModel" F_11 21, u_lay "ConeFormsModel" F_11 22, u_lay "ConeFormsModel" F_11 23, u_lay "ConeFormsModel" F_11 24, u_lay "ConeFormsModel" F_11 25, u_lay "ConeFormsModel" F_11 26, u_lay "ConeFormsModel" F_11 27, u_lay "ConeFormsModel" F_11 28, u_lay "ConeFormsModel" F_11 29, u_lay "ConeFormsModel" F_11 30, u_lay "ConeFormsModel" F_11 31, u_lay "ConeFormsModel" F_11 32, u_lay "ConeFormsModel" F_11 33, u_lay "ConeFormsModel" F_11 34, u_lay "ConeFormsModel" F_11 35], w ∈ gws
  exact List.forall_mem_cons.mpr ⟨gmc5 156 (by decide +kernel) rfl, List.forall_mem_cons.mpr ⟨gmc5 158 (by decide +kernel) rfl, List.forall_mem_cons.mpr ⟨gmc5 160 (by decide +kernel) rfl, List.forall_mem_cons.mpr ⟨gmc5 162 (by decide +kernel) rfl, List.forall_mem_cons.mpr ⟨gmc5 164 (by decide +kernel) rfl, List.forall_mem_cons.mpr ⟨gmc5 166 (by decide +kernel) rfl, List.forall_mem_cons.mpr ⟨gmc5 168 (by decide +kernel) rfl, List.forall_mem_cons.mpr ⟨gmc5 170 (by decide +kernel) rfl, List.forall_mem_cons.mpr ⟨gmc5 172 (by decide +kernel) rfl, List.forall_mem_cons.mpr ⟨gmc5 174 (by decide +kernel) rfl, List.forall_mem_cons.mpr ⟨gmc5 176 (by decide +kernel) rfl, List.forall_mem_cons.mpr ⟨gmc5 178 (by decide +kernel) rfl, List.forall_mem_cons.mpr ⟨gmc5 180 (by decide +kernel) rfl, List.forall_mem_cons.mpr ⟨gmc5 182 (by decide +kernel) rfl, List.forall_mem_cons.mpr ⟨gmc5 184 (by decide +kernel) rfl, List.forall_mem_cons.mpr ⟨gmc5 186 (by decide +kernel) rfl, List.forall_mem_cons.mpr ⟨gmc5 188 (by decide +kernel) rfl, List.forall_mem_cons.mpr ⟨gmc5 190 (by decide +kernel) rfl, List.forall_mem_cons.mpr ⟨gmc5 192 (by decide +kernel) rfl, List.forall_mem_cons.mpr ⟨gmc5 194 (by decide +kernel) rfl, List.forall_mem_cons.mpr ⟨gmc5 196 (by decide +kernel) rfl, List.forall_mem_cons.mpr ⟨gmc5 198 (by decide +kernel) rfl, List.forall_mem_cons.mpr ⟨gmc5 200 (by decide +kernel) rfl, List.forall_mem_cons.mpr ⟨gmc5 202 (by decide +kernel) rfl, List.forall_mem_cons.mpr ⟨gmc5 204 (by decide +kernel) rfl, List.forall_mem_cons.mpr ⟨gmc5 206 (by decide +kernel) rfl, List.forall_mem_cons.mpr ⟨gmc5 208 (by decide +kernel) rfl, List.forall_mem_cons.mpr ⟨gmc5 210 (by decide +kernel) rfl, List.forall_mem_cons.mpr ⟨gmc5 212 (by decide +kernel) rfl, List.forall_mem_cons.mpr ⟨gmc5 214 (by decide +kernel) rfl, List.forall_mem_cons.mpr ⟨gmc5 216 (by decide +kernel) rfl, List.forall_mem_cons.mpr ⟨gmc5 218 (by decide +kernel) rfl, List.forall_mem_cons.mpr ⟨gmc5 220 (by decide +kernel) rfl, List.forall_mem_cons.mpr ⟨gmc5 222 (by decide +kernel) rfl, List.forall_mem_cons.mpr ⟨gmc5 224 (by decide +kernel) rfl, List.forall_mem_cons.mpr ⟨gmc5 226 (by decide +kernel) rfl, fun _ h => absurd h List.not_mem_nil⟩⟩⟩⟩⟩⟩⟩⟩⟩⟩⟩⟩⟩⟩⟩⟩⟩⟩⟩⟩⟩⟩⟩⟩⟩⟩⟩⟩⟩⟩⟩⟩⟩⟩⟩⟩
abbrev classes : List vw_C := [("java/lang/StringBuilder", F_0, 4), ("ConeForms$Scanner", F_1, 9), ("java/util/ArrayList", F_2, 3), ("ConeForms$Table", F_3, 2), ("ConeForms", F_4, 17), ("ConeForms$Leaf", F_5, 14), ("ConeForms$Bend", F_6, 15), ("ConeForms$Product", F_7, 14), ("ConeForms$Linear", F_8, 14), ("ConeForms$Requirement", F_9, 4), ("java/util/ArrayList$Itr", F_10, 4), ("ConeFormsModel", F_11, 36)]
