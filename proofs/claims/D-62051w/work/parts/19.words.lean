/-! LINKING: words, fields, calls. Printed by gen_link.py. -/
def mi_l : List (MethodName × ByteArray × Nat × Option FieldType) := [(⟨"ConeForms", "<init>", "()V"⟩, prog_1_method_3_code, 1, none), (⟨"java/lang/StringBuilder", "<init>", "()V"⟩, prog_20_method_1_code, 1, none), (⟨"java/lang/AbstractStringBuilder", "<init>", "(I)V"⟩, prog_14_method_2_code, 2, none), (⟨"ConeForms$Scanner", "<init>", "(Ljava/lang/StringBuilder;)V"⟩, prog_9_method_1_code, 2, none), (⟨"java/util/ArrayList", "<init>", "()V"⟩, prog_26_method_2_code, 1, none), (⟨"java/util/AbstractList", "<init>", "()V"⟩, prog_25_method_1_code, 1, none), (⟨"java/util/AbstractCollection", "<init>", "()V"⟩, prog_24_method_1_code, 1, none), (⟨"ConeForms$Table", "<init>", "(I)V"⟩, prog_10_method_1_code, 2, none), (⟨"ConeForms", "type", "(C)Z"⟩, prog_1_method_4_code, 2, (some FieldType.boolean)), (⟨"java/lang/StringBuilder", "length", "()I"⟩, prog_20_method_93_code, 1, (some FieldType.int)), (⟨"java/lang/AbstractStringBuilder", "length", "()I"⟩, prog_14_method_6_code, 1, (some FieldType.int)), (⟨"java/lang/StringBuilder", "append", "(C)Ljava/lang/StringBuilder;"⟩, prog_20_method_14_code, 2, (some (FieldType.object "java/lang/StringBuilder"))), (⟨"java/lang/AbstractStringBuilder", "append", "(C)Ljava/lang/AbstractStringBuilder;"⟩, prog_14_method_31_code, 2, (some (FieldType.object "java/lang/AbstractStringBuilder"))), (⟨"java/lang/AbstractStringBuilder", "ensureCapacityInternal", "(I)V"⟩, prog_14_method_9_code, 3, none), (⟨"java/lang/AbstractStringBuilder", "newCapacity", "(I)I"⟩, prog_14_method_10_code, 6, (some FieldType.int)), (⟨"jdk/internal/util/ArraysSupport", "newLength", "(III)I"⟩, prog_35_method_27_code, 4, (some FieldType.int)), (⟨"java/lang/Math", "max", "(II)I"⟩, prog_18_method_65_code, 2, (some FieldType.int)), (⟨"java/util/Arrays", "copyOf", "([BI)[B"⟩, prog_28_method_121_code, 3, (some (FieldType.array FieldType.byte))), (⟨"java/lang/Math", "min", "(II)I"⟩, prog_18_method_69_code, 2, (some FieldType.int)), (⟨"java/lang/AbstractStringBuilder", "isLatin1", "()Z"⟩, prog_14_method_68_code, 1, (some FieldType.boolean)), (⟨"java/lang/StringLatin1", "canEncode", "(C)Z"⟩, prog_21_method_3_code, 1, (some FieldType.boolean)), (⟨"java/lang/String", "checkIndex", "(II)V"⟩, prog_19_method_155_code, 2, none), (⟨"jdk/internal/util/Preconditions", "checkIndex", "(IILjava/util/function/BiFunction;)I"⟩, prog_36_method_11_code, 3, (some FieldType.int)), (⟨"ConeForms", "wipe", "()V"⟩, prog_1_method_5_code, 1, none), (⟨"java/lang/StringBuilder", "setLength", "(I)V"⟩, prog_20_method_89_code, 2, none), (⟨"java/lang/AbstractStringBuilder", "setLength", "(I)V"⟩, prog_14_method_13_code, 2, none), (⟨"ConeForms", "read", "()I"⟩, prog_1_method_6_code, 3, (some FieldType.int)), (⟨"java/util/ArrayList", "size", "()I"⟩, prog_26_method_8_code, 1, (some FieldType.int)), (⟨"ConeForms$Scanner", "scan", "()Z"⟩, prog_9_method_2_code, 2, (some FieldType.boolean)), (⟨"java/lang/StringBuilder", "charAt", "(I)C"⟩, prog_20_method_88_code, 2, (some FieldType.char)), (⟨"java/lang/AbstractStringBuilder", "charAt", "(I)C"⟩, prog_14_method_14_code, 5, (some FieldType.char)), (⟨"ConeForms$Scanner", "first", "(C)Z"⟩, prog_9_method_7_code, 3, (some FieldType.boolean)), (⟨"ConeForms$Scanner", "digit", "()Z"⟩, prog_9_method_3_code, 1, (some FieldType.boolean)), (⟨"ConeForms$Scanner", "number", "(I)I"⟩, prog_9_method_4_code, 4, (some FieldType.int)), (⟨"ConeForms$Scanner", "step", "(LConeForms$Kind;I)V"⟩, prog_9_method_5_code, 3, none), (⟨"ConeForms$Scanner", "push", "(CI)V"⟩, prog_9_method_6_code, 3, none), (⟨"ConeForms$Scanner", "kindOf", "(C)LConeForms$Kind;"⟩, prog_9_method_11_code, 1, (some (FieldType.object "ConeForms$Kind"))), (⟨"ConeForms$Kind", "bent", "()Z"⟩, prog_3_method_4_code, 1, (some FieldType.boolean)), (⟨"ConeForms$Scanner", "then", "(C)Z"⟩, prog_9_method_8_code, 2, (some FieldType.boolean)), (⟨"ConeForms$Scanner", "reduce", "(I)V"⟩, prog_9_method_10_code, 2, none), (⟨"ConeForms$Scanner", "rank", "(C)I"⟩, prog_9_method_9_code, 1, (some FieldType.int)), (⟨"ConeForms", "make", "(I)I"⟩, prog_1_method_7_code, 12, (some FieldType.int)), (⟨"java/util/ArrayList", "get", "(I)Ljava/lang/Object;"⟩, prog_26_method_20_code, 2, (some (FieldType.object "java/lang/Object"))), (⟨"java/util/Objects", "checkIndex", "(II)I"⟩, prog_32_method_17_code, 2, (some FieldType.int)), (⟨"java/util/ArrayList", "elementData", "(I)Ljava/lang/Object;"⟩, prog_26_method_18_code, 2, (some (FieldType.object "java/lang/Object"))), (⟨"ConeForms", "equal", "(LConeForms$Kind;ILConeForms$Node;LConeForms$Node;LConeForms$Node;)LConeForms$Node;"⟩, prog_1_method_8_code, 8, (some (FieldType.object "ConeForms$Node"))), (⟨"ConeForms", "fresh", "(LConeForms$Kind;ILConeForms$Node;LConeForms$Node;LConeForms$Node;)LConeForms$Node;"⟩, prog_1_method_9_code, 5, (some (FieldType.object "ConeForms$Node"))), (⟨"ConeForms$Leaf", "<init>", "(LConeForms$Kind;I)V"⟩, prog_4_method_1_code, 3, none), (⟨"ConeForms$Node", "<init>", "(LConeForms$Kind;ILConeForms$Node;LConeForms$Node;LConeForms$Node;)V"⟩, prog_6_method_1_code, 6, none), (⟨"ConeForms$Bend", "<init>", "(LConeForms$Kind;LConeForms$Node;LConeForms$Node;LConeForms$Node;)V"⟩, prog_2_method_1_code, 5, none), (⟨"ConeForms$Product", "<init>", "(LConeForms$Node;LConeForms$Node;)V"⟩, prog_7_method_1_code, 3, none), (⟨"ConeForms$Linear", "<init>", "(LConeForms$Kind;LConeForms$Node;LConeForms$Node;)V"⟩, prog_5_method_1_code, 4, none), (⟨"ConeForms$Bend", "span", "()J"⟩, prog_2_method_2_code, 1, (some FieldType.long)), (⟨"java/lang/Enum", "ordinal", "()I"⟩, prog_16_method_2_code, 1, (some FieldType.int)), (⟨"ConeForms$Leaf", "span", "()J"⟩, prog_4_method_2_code, 1, (some FieldType.long)), (⟨"ConeForms$Linear", "span", "()J"⟩, prog_5_method_2_code, 1, (some FieldType.long)), (⟨"ConeForms$Product", "span", "()J"⟩, prog_7_method_2_code, 1, (some FieldType.long)), (⟨"ConeForms", "settle", "(LConeForms$Node;I)V"⟩, prog_1_method_10_code, 3, none), (⟨"ConeForms$Bend", "signsDue", "()I"⟩, prog_2_method_4_code, 1, (some FieldType.int)), (⟨"ConeForms$Leaf", "signsDue", "()I"⟩, prog_4_method_4_code, 1, (some FieldType.int)), (⟨"ConeForms$Linear", "signsDue", "()I"⟩, prog_5_method_4_code, 1, (some FieldType.int)), (⟨"ConeForms", "turned", "(I)I"⟩, prog_1_method_1_code, 1, (some FieldType.int)), (⟨"ConeForms$Product", "signsDue", "()I"⟩, prog_7_method_4_code, 2, (some FieldType.int)), (⟨"ConeForms$Node", "judge", "()V"⟩, prog_6_method_11_code, 11, none), (⟨"ConeForms$Node", "argument", "(I)LConeForms$Node;"⟩, prog_6_method_9_code, 2, (some (FieldType.object "ConeForms$Node"))), (⟨"ConeForms$Node", "admits", "(II)Z"⟩, prog_6_method_10_code, 5, (some FieldType.boolean)), (⟨"ConeForms$Bend", "slope", "(I)I"⟩, prog_2_method_5_code, 2, (some FieldType.int)), (⟨"ConeForms", "upOrDown", "(I)I"⟩, prog_1_method_2_code, 1, (some FieldType.int)), (⟨"ConeForms$Leaf", "slope", "(I)I"⟩, prog_4_method_5_code, 2, (some FieldType.int)), (⟨"ConeForms$Linear", "slope", "(I)I"⟩, prog_5_method_5_code, 2, (some FieldType.int)), (⟨"ConeForms$Product", "slope", "(I)I"⟩, prog_7_method_5_code, 2, (some FieldType.int)), (⟨"ConeForms$Product", "shape", "()I"⟩, prog_7_method_6_code, 1, (some FieldType.int)), (⟨"ConeForms$Node", "shape", "()I"⟩, prog_6_method_8_code, 1, (some FieldType.int)), (⟨"ConeForms$Bend", "compute", "()I"⟩, prog_2_method_3_code, 1, (some FieldType.int)), (⟨"java/lang/Math", "abs", "(I)I"⟩, prog_18_method_59_code, 1, (some FieldType.int)), (⟨"ConeForms$Leaf", "compute", "()I"⟩, prog_4_method_3_code, 1, (some FieldType.int)), (⟨"ConeForms$Linear", "compute", "()I"⟩, prog_5_method_3_code, 1, (some FieldType.int)), (⟨"ConeForms$Product", "compute", "()I"⟩, prog_7_method_3_code, 1, (some FieldType.int)), (⟨"java/util/ArrayList", "add", "(Ljava/lang/Object;)Z"⟩, prog_26_method_25_code, 2, (some FieldType.boolean)), (⟨"java/util/ArrayList", "add", "(Ljava/lang/Object;[Ljava/lang/Object;I)V"⟩, prog_26_method_24_code, 4, none), (⟨"java/util/ArrayList", "grow", "()[Ljava/lang/Object;"⟩, prog_26_method_7_code, 1, (some (FieldType.array (FieldType.object "java/lang/Object")))), (⟨"java/util/ArrayList", "grow", "(I)[Ljava/lang/Object;"⟩, prog_26_method_6_code, 4, (some (FieldType.array (FieldType.object "java/lang/Object")))), (⟨"java/util/Arrays", "copyOf", "([Ljava/lang/Object;I)[Ljava/lang/Object;"⟩, prog_28_method_119_code, 2, (some (FieldType.array (FieldType.object "java/lang/Object")))), (⟨"java/util/Arrays", "copyOf", "([Ljava/lang/Object;ILjava/lang/Class;)[Ljava/lang/Object;"⟩, prog_28_method_120_code, 4, (some (FieldType.array (FieldType.object "java/lang/Object")))), (⟨"java/util/ArrayList", "remove", "(I)Ljava/lang/Object;"⟩, prog_26_method_29_code, 4, (some (FieldType.object "java/lang/Object"))), (⟨"java/util/ArrayList", "fastRemove", "([Ljava/lang/Object;I)V"⟩, prog_26_method_39_code, 4, none), (⟨"ConeForms", "nodes", "()I"⟩, prog_1_method_12_code, 1, (some FieldType.int)), (⟨"ConeForms", "attributes", "(I)I"⟩, prog_1_method_13_code, 3, (some FieldType.int)), (⟨"ConeForms", "node", "(I)LConeForms$Node;"⟩, prog_1_method_11_code, 2, (some (FieldType.object "ConeForms$Node"))), (⟨"ConeForms", "reach", "(I)I"⟩, prog_1_method_14_code, 3, (some FieldType.int)), (⟨"ConeForms", "value", "(I)I"⟩, prog_1_method_15_code, 3, (some FieldType.int)), (⟨"ConeForms", "set", "(II)Z"⟩, prog_1_method_17_code, 8, (some FieldType.boolean)), (⟨"ConeForms", "within", "(II)Z"⟩, prog_1_method_16_code, 2, (some FieldType.boolean)), (⟨"ConeForms", "fill", "()V"⟩, prog_1_method_31_code, 3, none), (⟨"ConeForms$Node", "expansion", "(LConeForms$Table;)V"⟩, prog_6_method_12_code, 2, none), (⟨"ConeForms$Table", "clear", "(I)V"⟩, prog_10_method_2_code, 3, none), (⟨"ConeForms$Bend", "expand", "(LConeForms$Table;)V"⟩, prog_2_method_6_code, 2, none), (⟨"ConeForms$Table", "put", "(III)V"⟩, prog_10_method_3_code, 4, none), (⟨"ConeForms$Leaf", "expand", "(LConeForms$Table;)V"⟩, prog_4_method_6_code, 2, none), (⟨"ConeForms$Linear", "expand", "(LConeForms$Table;)V"⟩, prog_5_method_6_code, 2, none), (⟨"ConeForms$Table", "add", "(ILConeForms$Table;II)V"⟩, prog_10_method_5_code, 6, none), (⟨"ConeForms$Product", "expand", "(LConeForms$Table;)V"⟩, prog_7_method_7_code, 2, none), (⟨"ConeForms", "row", "(LConeForms$Node;ILConeForms$Node;ILConeForms$Node;II)V"⟩, prog_1_method_30_code, 8, none), (⟨"ConeForms", "plain", "(LConeForms$Node;)V"⟩, prog_1_method_32_code, 3, none), (⟨"ConeForms", "culprit", "(I)I"⟩, prog_1_method_20_code, 4, (some FieldType.int)), (⟨"ConeForms", "culpritOf", "(LConeForms$Node;)LConeForms$Node;"⟩, prog_1_method_19_code, 3, (some (FieldType.object "ConeForms$Node"))), (⟨"ConeForms", "offender", "(LConeForms$Node;I)LConeForms$Node;"⟩, prog_1_method_18_code, 3, (some (FieldType.object "ConeForms$Node"))), (⟨"ConeForms", "objective", "(IZ)Z"⟩, prog_1_method_22_code, 4, (some FieldType.boolean)), (⟨"ConeForms", "drop", "()V"⟩, prog_1_method_21_code, 3, none), (⟨"java/util/ArrayList", "clear", "()V"⟩, prog_26_method_40_code, 4, none), (⟨"ConeForms", "require", "(ZII)Z"⟩, prog_1_method_23_code, 8, (some FieldType.boolean)), (⟨"ConeForms$Requirement", "<init>", "(ZLConeForms$Node;LConeForms$Node;)V"⟩, prog_8_method_1_code, 4, none), (⟨"ConeForms", "withdraw", "(I)Z"⟩, prog_1_method_24_code, 4, (some FieldType.boolean)), (⟨"ConeForms", "compile", "()I"⟩, prog_1_method_27_code, 4, (some FieldType.int)), (⟨"ConeForms", "wrongPart", "()LConeForms$Node;"⟩, prog_1_method_26_code, 3, (some (FieldType.object "ConeForms$Node"))), (⟨"ConeForms", "wrong", "(LConeForms$Node;I)LConeForms$Node;"⟩, prog_1_method_25_code, 3, (some (FieldType.object "ConeForms$Node"))), (⟨"ConeForms", "use", "()V"⟩, prog_1_method_29_code, 4, none), (⟨"ConeForms", "number", "(LConeForms$Node;)V"⟩, prog_1_method_28_code, 2, none), (⟨"ConeForms", "rows", "(I)I"⟩, prog_1_method_33_code, 2, (some FieldType.int)), (⟨"ConeForms", "entry", "(II)I"⟩, prog_1_method_34_code, 4, (some FieldType.int)), (⟨"ConeForms$Table", "get", "(II)I"⟩, prog_10_method_4_code, 3, (some FieldType.int)), (⟨"ConeForms", "column", "(I)I"⟩, prog_1_method_35_code, 3, (some FieldType.int)), (⟨"ConeForms", "lift", "()Z"⟩, prog_1_method_36_code, 3, (some FieldType.boolean)), (⟨"java/util/ArrayList", "iterator", "()Ljava/util/Iterator;"⟩, prog_26_method_55_code, 1, (some (FieldType.object "java/util/Iterator"))), (⟨"java/util/ArrayList$Itr", "<init>", "(Ljava/util/ArrayList;)V"⟩, prog_27_method_1_code, 2, none), (⟨"java/util/ArrayList$Itr", "hasNext", "()Z"⟩, prog_27_method_2_code, 1, (some FieldType.boolean)), (⟨"java/util/ArrayList$Itr", "next", "()Ljava/lang/Object;"⟩, prog_27_method_3_code, 3, (some (FieldType.object "java/lang/Object"))), (⟨"java/util/ArrayList$Itr", "checkForComodification", "()V"⟩, prog_27_method_6_code, 1, none), (⟨"ConeForms", "fits", "()Z"⟩, prog_1_method_38_code, 10, (some FieldType.boolean)), (⟨"ConeForms", "worth", "(I)J"⟩, prog_1_method_37_code, 2, (some FieldType.long)), (⟨"ConeForms$Table", "worth", "(ILjava/util/ArrayList;)J"⟩, prog_10_method_6_code, 7, (some FieldType.long)), (⟨"ConeForms$Bend", "standing", "()I"⟩, prog_2_method_7_code, 1, (some FieldType.int)), (⟨"ConeForms$Node", "standing", "()I"⟩, prog_6_method_7_code, 1, (some FieldType.int)), (⟨"java/lang/Math", "abs", "(J)J"⟩, prog_18_method_61_code, 2, (some FieldType.long)), (⟨"ConeForms", "cost", "()J"⟩, prog_1_method_39_code, 1, (some FieldType.long)), (⟨"ConeForms", "feasible", "()Z"⟩, prog_1_method_40_code, 3, (some FieldType.boolean)), (⟨"ConeForms$Requirement", "holds", "()Z"⟩, prog_8_method_2_code, 1, (some FieldType.boolean)), (⟨"ConeFormsModel", "<init>", "()V"⟩, prog_12_method_1_code, 1, none), (⟨"ConeFormsModel", "type", "(C)Z"⟩, prog_12_method_2_code, 2, (some FieldType.boolean)), (⟨"ConeFormsModel", "wipe", "()V"⟩, prog_12_method_3_code, 1, none), (⟨"ConeFormsModel", "read", "()I"⟩, prog_12_method_18_code, 4, (some FieldType.int)), (⟨"ConeFormsModel", "parse", "()I"⟩, prog_12_method_13_code, 2, (some FieldType.int)), (⟨"ConeFormsModel", "accept", "(I)Z"⟩, prog_12_method_12_code, 3, (some FieldType.boolean)), (⟨"ConeFormsModel", "operand", "(II)V"⟩, prog_12_method_6_code, 3, none), (⟨"ConeFormsModel", "emit", "(II)V"⟩, prog_12_method_4_code, 3, none), (⟨"ConeFormsModel", "negations", "()V"⟩, prog_12_method_5_code, 1, none), (⟨"ConeFormsModel", "begin", "(I)Z"⟩, prog_12_method_9_code, 2, (some FieldType.boolean)), (⟨"ConeFormsModel", "open", "(I)V"⟩, prog_12_method_8_code, 2, none), (⟨"ConeFormsModel", "follow", "(I)Z"⟩, prog_12_method_11_code, 4, (some FieldType.boolean)), (⟨"ConeFormsModel", "unwind", "(Z)V"⟩, prog_12_method_7_code, 2, none), (⟨"ConeFormsModel", "commasOf", "(I)I"⟩, prog_12_method_10_code, 1, (some FieldType.int)), (⟨"ConeFormsModel", "build", "(I)I"⟩, prog_12_method_17_code, 10, (some FieldType.int)), (⟨"ConeFormsModel", "arity", "(I)I"⟩, prog_12_method_14_code, 1, (some FieldType.int)), (⟨"ConeFormsModel", "make", "(IIIII)I"⟩, prog_12_method_16_code, 8, (some FieldType.int)), (⟨"ConeFormsModel", "reachOf", "(IIIII)J"⟩, prog_12_method_15_code, 6, (some FieldType.long)), (⟨"ConeFormsModel", "nodes", "()I"⟩, prog_12_method_19_code, 1, (some FieldType.int)), (⟨"ConeFormsModel", "attributes", "(I)I"⟩, prog_12_method_31_code, 2, (some FieldType.int)), (⟨"ConeFormsModel", "work", "()V"⟩, prog_12_method_30_code, 5, none), (⟨"ConeFormsModel", "signs", "(IIII)V"⟩, prog_12_method_21_code, 7, none), (⟨"ConeFormsModel", "worthOf", "(IIII)I"⟩, prog_12_method_23_code, 5, (some FieldType.int)), (⟨"ConeFormsModel", "greater", "(II)I"⟩, prog_12_method_22_code, 2, (some FieldType.int)), (⟨"ConeFormsModel", "curveOf", "(I)I"⟩, prog_12_method_28_code, 5, (some FieldType.int)), (⟨"ConeFormsModel", "having", "(III)I"⟩, prog_12_method_27_code, 7, (some FieldType.int)), (⟨"ConeFormsModel", "firstNot", "(II)I"⟩, prog_12_method_26_code, 5, (some FieldType.int)), (⟨"ConeFormsModel", "admits", "(III)Z"⟩, prog_12_method_25_code, 6, (some FieldType.boolean)), (⟨"ConeFormsModel", "trend", "(II)I"⟩, prog_12_method_24_code, 5, (some FieldType.int)), (⟨"ConeFormsModel", "blameOf", "(I)I"⟩, prog_12_method_29_code, 3, (some FieldType.int)), (⟨"ConeFormsModel", "isNode", "(I)Z"⟩, prog_12_method_20_code, 2, (some FieldType.boolean)), (⟨"ConeFormsModel", "reach", "(I)I"⟩, prog_12_method_32_code, 2, (some FieldType.int)), (⟨"ConeFormsModel", "value", "(I)I"⟩, prog_12_method_33_code, 2, (some FieldType.int)), (⟨"ConeFormsModel", "culprit", "(I)I"⟩, prog_12_method_35_code, 2, (some FieldType.int)), (⟨"ConeFormsModel", "walk", "(I)I"⟩, prog_12_method_34_code, 7, (some FieldType.int)), (⟨"ConeFormsModel", "objective", "(IZ)Z"⟩, prog_12_method_36_code, 3, (some FieldType.boolean)), (⟨"ConeFormsModel", "require", "(ZII)Z"⟩, prog_12_method_37_code, 4, (some FieldType.boolean)), (⟨"ConeFormsModel", "withdraw", "(I)Z"⟩, prog_12_method_38_code, 3, (some FieldType.boolean)), (⟨"ConeFormsModel", "feasible", "()Z"⟩, prog_12_method_39_code, 5, (some FieldType.boolean)), (⟨"ConeFormsModel", "compile", "()I"⟩, prog_12_method_42_code, 3, (some FieldType.int)), (⟨"ConeFormsModel", "wrongPart", "()I"⟩, prog_12_method_41_code, 2, (some FieldType.int)), (⟨"ConeFormsModel", "good", "(II)Z"⟩, prog_12_method_40_code, 3, (some FieldType.boolean)), (⟨"ConeFormsModel", "mark", "()V"⟩, prog_12_method_43_code, 3, none), (⟨"ConeFormsModel", "columns", "()I"⟩, prog_12_method_46_code, 3, (some FieldType.int)), (⟨"ConeFormsModel", "variable", "(I)Z"⟩, prog_12_method_45_code, 2, (some FieldType.boolean)), (⟨"ConeFormsModel", "auxiliary", "(I)Z"⟩, prog_12_method_44_code, 2, (some FieldType.boolean)), (⟨"ConeFormsModel", "column", "(I)I"⟩, prog_12_method_48_code, 2, (some FieldType.int)), (⟨"ConeFormsModel", "place", "(I)I"⟩, prog_12_method_47_code, 5, (some FieldType.int)), (⟨"ConeFormsModel", "rows", "(I)I"⟩, prog_12_method_53_code, 2, (some FieldType.int)), (⟨"ConeFormsModel", "rowCount", "(I)I"⟩, prog_12_method_52_code, 4, (some FieldType.int)), (⟨"ConeFormsModel", "rowsOf", "(I)I"⟩, prog_12_method_51_code, 1, (some FieldType.int)), (⟨"ConeFormsModel", "entry", "(II)I"⟩, prog_12_method_57_code, 7, (some FieldType.int)), (⟨"ConeFormsModel", "allRows", "()I"⟩, prog_12_method_56_code, 1, (some FieldType.int)), (⟨"ConeFormsModel", "expand", "(I)V"⟩, prog_12_method_50_code, 5, none), (⟨"ConeFormsModel", "chosen", "(II)J"⟩, prog_12_method_49_code, 3, (some FieldType.long)), (⟨"ConeFormsModel", "rowValue", "(I)J"⟩, prog_12_method_55_code, 6, (some FieldType.long)), (⟨"ConeFormsModel", "rowOf", "(II)J"⟩, prog_12_method_54_code, 13, (some FieldType.long)), (⟨"ConeFormsModel", "set", "(II)Z"⟩, prog_12_method_58_code, 4, (some FieldType.boolean)), (⟨"ConeFormsModel", "lift", "()Z"⟩, prog_12_method_59_code, 2, (some FieldType.boolean)), (⟨"ConeFormsModel", "fits", "()Z"⟩, prog_12_method_61_code, 11, (some FieldType.boolean)), (⟨"ConeFormsModel", "inside", "(JJJ)Z"⟩, prog_12_method_60_code, 6, (some FieldType.boolean)), (⟨"ConeFormsModel", "cost", "()J"⟩, prog_12_method_62_code, 1, (some FieldType.long)), (⟨"ConeFormsLaw", "law", "([I)Z"⟩, code, 4, ret)]
theorem nm_t {w : Cond} (h : w ∈ tables_1) (hg : nwOk w = true) : w ∈ nws := List.mem_filter.mpr ⟨h, hg⟩
theorem am_g_of {ci g : Nat} (h : (am_g ci == g || ci == g) = true) : ci = g ∨ (g = 5 ∧ (ci = 6 ∨ ci = 7 ∨ ci = 8)) := by
  simp only [Bool.or_eq_true, beq_iff_eq] at h
  rcases h with h | h
  · unfold am_g at h
    split at h
    · rename_i hh; right; exact ⟨h.symm, hh⟩
    · left; exact h
  · left; exact h
theorem g_33 : Cond.methodLink "ConeForms" 3 (⟨"java/lang/Object", "<init>", "()V"⟩ : MethodName) ∈ gws := gmc1 33 (by decide +kernel) rfl
theorem g_34 : Cond.instanceMethod (⟨"java/lang/Object", "<init>", "()V"⟩ : MethodName) ∈ gws := gmc1 34 (by decide +kernel) rfl
set_option maxRecDepth 100000 in
theorem g_35 : Cond.code (⟨"java/lang/Object", "<init>", "()V"⟩ : MethodName) object_method_1_code 1 (Option.none : Option FieldType) ∈ gws := gmc1 35 rfl rfl
theorem g_36 : Cond.classLink "ConeForms" 9 "java/lang/StringBuilder" ∈ gws := gmc1 36 (by decide +kernel) rfl
theorem g_37 : Cond.instantiable "java/lang/StringBuilder" 4 ∈ gws := gmc1 37 (by decide +kernel) rfl
theorem g_3 : Cond.initialized "java/lang/StringBuilder" ∈ gws := gmc1 3 (by decide +kernel) rfl
theorem g_38 : Cond.methodLink "ConeForms" 11 (⟨"java/lang/StringBuilder", "<init>", "()V"⟩ : MethodName) ∈ gws := gmc1 38 (by decide +kernel) rfl
theorem g_39 : Cond.instanceMethod (⟨"java/lang/StringBuilder", "<init>", "()V"⟩ : MethodName) ∈ gws := gmc1 39 (by decide +kernel) rfl
set_option maxRecDepth 100000 in
theorem g_40 : Cond.code (⟨"java/lang/StringBuilder", "<init>", "()V"⟩ : MethodName) prog_20_method_1_code 1 (Option.none : Option FieldType) ∈ gws := gmc1 40 rfl rfl
theorem g_156 : Cond.fieldLink "ConeForms" 12 "ConeForms" "line" "Ljava/lang/StringBuilder;" ∈ gws := gmc1 156 (by decide +kernel) rfl
theorem g_68 : Cond.classLink "ConeForms" 16 "ConeForms$Scanner" ∈ gws := gmc1 68 (by decide +kernel) rfl
theorem g_69 : Cond.instantiable "ConeForms$Scanner" 9 ∈ gws := gmc1 69 (by decide +kernel) rfl
theorem g_6 : Cond.initialized "ConeForms$Scanner" ∈ gws := gmc1 6 (by decide +kernel) rfl
theorem g_70 : Cond.methodLink "ConeForms" 18 (⟨"ConeForms$Scanner", "<init>", "(Ljava/lang/StringBuilder;)V"⟩ : MethodName) ∈ gws := gmc1 70 (by decide +kernel) rfl
theorem g_71 : Cond.instanceMethod (⟨"ConeForms$Scanner", "<init>", "(Ljava/lang/StringBuilder;)V"⟩ : MethodName) ∈ gws := gmc1 71 (by decide +kernel) rfl
set_option maxRecDepth 100000 in
theorem g_72 : Cond.code (⟨"ConeForms$Scanner", "<init>", "(Ljava/lang/StringBuilder;)V"⟩ : MethodName) prog_9_method_1_code 2 (Option.none : Option FieldType) ∈ gws := gmc1 72 rfl rfl
theorem g_157 : Cond.fieldLink "ConeForms" 21 "ConeForms" "scanner" "LConeForms$Scanner;" ∈ gws := gmc1 157 (by decide +kernel) rfl
theorem g_110 : Cond.classLink "ConeForms" 25 "java/util/ArrayList" ∈ gws := gmc1 110 (by decide +kernel) rfl
theorem g_111 : Cond.instantiable "java/util/ArrayList" 3 ∈ gws := gmc1 111 (by decide +kernel) rfl
theorem g_9 : Cond.initialized "java/util/ArrayList" ∈ gws := gmc1 9 (by decide +kernel) rfl
theorem g_112 : Cond.methodLink "ConeForms" 27 (⟨"java/util/ArrayList", "<init>", "()V"⟩ : MethodName) ∈ gws := gmc1 112 (by decide +kernel) rfl
theorem g_113 : Cond.instanceMethod (⟨"java/util/ArrayList", "<init>", "()V"⟩ : MethodName) ∈ gws := gmc1 113 (by decide +kernel) rfl
set_option maxRecDepth 100000 in
theorem g_114 : Cond.code (⟨"java/util/ArrayList", "<init>", "()V"⟩ : MethodName) prog_26_method_2_code 1 (Option.none : Option FieldType) ∈ gws := gmc1 114 rfl rfl
theorem g_160 : Cond.fieldLink "ConeForms" 28 "ConeForms" "nodes" "Ljava/util/ArrayList;" ∈ gws := gmc1 160 (by decide +kernel) rfl
theorem g_139 : Cond.classLink "ConeForms" 32 "ConeForms$Node" ∈ gws := gmc1 139 (by decide +kernel) rfl
theorem g_161 : Cond.fieldLink "ConeForms" 34 "ConeForms" "operands" "[LConeForms$Node;" ∈ gws := gmc1 161 (by decide +kernel) rfl
theorem g_167 : Cond.fieldLink "ConeForms" 38 "ConeForms" "columns" "Ljava/util/ArrayList;" ∈ gws := gmc1 167 (by decide +kernel) rfl
theorem g_141 : Cond.classLink "ConeForms" 41 "ConeForms$Table" ∈ gws := gmc1 141 (by decide +kernel) rfl
theorem g_142 : Cond.instantiable "ConeForms$Table" 2 ∈ gws := gmc1 142 (by decide +kernel) rfl
theorem g_10 : Cond.initialized "ConeForms$Table" ∈ gws := gmc1 10 (by decide +kernel) rfl
theorem g_143 : Cond.methodLink "ConeForms" 43 (⟨"ConeForms$Table", "<init>", "(I)V"⟩ : MethodName) ∈ gws := gmc1 143 (by decide +kernel) rfl
theorem g_144 : Cond.instanceMethod (⟨"ConeForms$Table", "<init>", "(I)V"⟩ : MethodName) ∈ gws := gmc1 144 (by decide +kernel) rfl
set_option maxRecDepth 100000 in
theorem g_145 : Cond.code (⟨"ConeForms$Table", "<init>", "(I)V"⟩ : MethodName) prog_10_method_1_code 2 (Option.none : Option FieldType) ∈ gws := gmc1 145 rfl rfl
theorem g_168 : Cond.fieldLink "ConeForms" 46 "ConeForms" "expansions" "LConeForms$Table;" ∈ gws := gmc1 168 (by decide +kernel) rfl
theorem g_169 : Cond.fieldLink "ConeForms" 50 "ConeForms" "table" "LConeForms$Table;" ∈ gws := gmc1 169 (by decide +kernel) rfl
theorem g_41 : Cond.methodLink "java/lang/StringBuilder" 1 (⟨"java/lang/AbstractStringBuilder", "<init>", "(I)V"⟩ : MethodName) ∈ gws := gmc1 41 (by decide +kernel) rfl
theorem g_42 : Cond.instanceMethod (⟨"java/lang/AbstractStringBuilder", "<init>", "(I)V"⟩ : MethodName) ∈ gws := gmc1 42 (by decide +kernel) rfl
theorem g_2 : Cond.initialized "java/lang/AbstractStringBuilder" ∈ gws := gmc1 2 (by decide +kernel) rfl
set_option maxRecDepth 100000 in
theorem g_43 : Cond.code (⟨"java/lang/AbstractStringBuilder", "<init>", "(I)V"⟩ : MethodName) prog_14_method_2_code 2 (Option.none : Option FieldType) ∈ gws := gmc1 43 rfl rfl
theorem g_44 : Cond.methodLink "java/lang/AbstractStringBuilder" 3 (⟨"java/lang/Object", "<init>", "()V"⟩ : MethodName) ∈ gws := gmc1 44 (by decide +kernel) rfl
theorem g_45 : Cond.fieldLink "java/lang/AbstractStringBuilder" 18 "java/lang/String" "COMPACT_STRINGS" "Z" ∈ gws := gmc1 45 (by decide +kernel) rfl
theorem g_67 : Cond.arrayClass FieldType.byte ∈ gws := gmc1 67 (by decide +kernel) rfl
theorem g_54 : Cond.fieldLink "java/lang/AbstractStringBuilder" 15 "java/lang/AbstractStringBuilder" "value" "[B" ∈ gws := gmc1 54 (by decide +kernel) rfl
theorem g_55 : Cond.fieldLink "java/lang/AbstractStringBuilder" 22 "java/lang/AbstractStringBuilder" "coder" "B" ∈ gws := gmc1 55 (by decide +kernel) rfl
theorem g_73 : Cond.methodLink "ConeForms$Scanner" 3 (⟨"java/lang/Object", "<init>", "()V"⟩ : MethodName) ∈ gws := gmc1 73 (by decide +kernel) rfl
theorem g_74 : Cond.classLink "ConeForms$Scanner" 9 "ConeForms$Kind" ∈ gws := gmc1 74 (by decide +kernel) rfl
theorem g_82 : Cond.fieldLink "ConeForms$Scanner" 11 "ConeForms$Scanner" "kinds" "[LConeForms$Kind;" ∈ gws := gmc1 82 (by decide +kernel) rfl
theorem g_108 : Cond.arrayClass FieldType.int ∈ gws := gmc1 108 (by decide +kernel) rfl
theorem g_84 : Cond.fieldLink "ConeForms$Scanner" 17 "ConeForms$Scanner" "data" "[I" ∈ gws := gmc1 84 (by decide +kernel) rfl
theorem g_109 : Cond.arrayClass FieldType.char ∈ gws := gmc1 109 (by decide +kernel) rfl
theorem g_86 : Cond.fieldLink "ConeForms$Scanner" 21 "ConeForms$Scanner" "open" "[C" ∈ gws := gmc1 86 (by decide +kernel) rfl
theorem g_87 : Cond.fieldLink "ConeForms$Scanner" 25 "ConeForms$Scanner" "wants" "[I" ∈ gws := gmc1 87 (by decide +kernel) rfl
theorem g_76 : Cond.fieldLink "ConeForms$Scanner" 28 "ConeForms$Scanner" "text" "Ljava/lang/StringBuilder;" ∈ gws := gmc1 76 (by decide +kernel) rfl
theorem g_115 : Cond.methodLink "java/util/ArrayList" 1 (⟨"java/util/AbstractList", "<init>", "()V"⟩ : MethodName) ∈ gws := gmc1 115 (by decide +kernel) rfl
theorem g_116 : Cond.instanceMethod (⟨"java/util/AbstractList", "<init>", "()V"⟩ : MethodName) ∈ gws := gmc1 116 (by decide +kernel) rfl
theorem g_8 : Cond.initialized "java/util/AbstractList" ∈ gws := gmc1 8 (by decide +kernel) rfl
set_option maxRecDepth 100000 in
theorem g_117 : Cond.code (⟨"java/util/AbstractList", "<init>", "()V"⟩ : MethodName) prog_25_method_1_code 1 (Option.none : Option FieldType) ∈ gws := gmc1 117 rfl rfl
theorem g_122 : Cond.fieldLink "java/util/ArrayList" 39 "java/util/ArrayList" "DEFAULTCAPACITY_EMPTY_ELEMENTDATA" "[Ljava/lang/Object;" ∈ gws := gmc1 122 (by decide +kernel) rfl
theorem g_124 : Cond.fieldLink "java/util/ArrayList" 9 "java/util/ArrayList" "elementData" "[Ljava/lang/Object;" ∈ gws := gmc1 124 (by decide +kernel) rfl
theorem g_118 : Cond.methodLink "java/util/AbstractList" 1 (⟨"java/util/AbstractCollection", "<init>", "()V"⟩ : MethodName) ∈ gws := gmc1 118 (by decide +kernel) rfl
theorem g_119 : Cond.instanceMethod (⟨"java/util/AbstractCollection", "<init>", "()V"⟩ : MethodName) ∈ gws := gmc1 119 (by decide +kernel) rfl
theorem g_7 : Cond.initialized "java/util/AbstractCollection" ∈ gws := gmc1 7 (by decide +kernel) rfl
set_option maxRecDepth 100000 in
theorem g_120 : Cond.code (⟨"java/util/AbstractCollection", "<init>", "()V"⟩ : MethodName) prog_24_method_1_code 1 (Option.none : Option FieldType) ∈ gws := gmc1 120 rfl rfl
theorem g_128 : Cond.fieldLink "java/util/AbstractList" 7 "java/util/AbstractList" "modCount" "I" ∈ gws := gmc1 128 (by decide +kernel) rfl
theorem g_121 : Cond.methodLink "java/util/AbstractCollection" 1 (⟨"java/lang/Object", "<init>", "()V"⟩ : MethodName) ∈ gws := gmc1 121 (by decide +kernel) rfl
theorem g_146 : Cond.methodLink "ConeForms$Table" 3 (⟨"java/lang/Object", "<init>", "()V"⟩ : MethodName) ∈ gws := gmc1 146 (by decide +kernel) rfl
theorem g_147 : Cond.fieldLink "ConeForms$Table" 9 "ConeForms$Table" "numbers" "[I" ∈ gws := gmc1 147 (by decide +kernel) rfl
theorem g_148 : Cond.fieldLink "ConeForms$Table" 15 "ConeForms$Table" "constants" "[I" ∈ gws := gmc1 148 (by decide +kernel) rfl
theorem g_212 : Cond.methodLink "ConeForms" 53 (⟨"java/lang/StringBuilder", "length", "()I"⟩ : MethodName) ∈ gws := gmc1 212 (by decide +kernel) rfl
theorem g_213 : Cond.instanceMethod (⟨"java/lang/StringBuilder", "length", "()I"⟩ : MethodName) ∈ gws := gmc1 213 (by decide +kernel) rfl
theorem g_214 : Cond.selects "java/lang/StringBuilder" (⟨"java/lang/StringBuilder", "length", "()I"⟩ : MethodName) (⟨"java/lang/StringBuilder", "length", "()I"⟩ : MethodName) ∈ gws := gmc1 214 (by decide +kernel) rfl
set_option maxRecDepth 100000 in
theorem g_215 : Cond.code (⟨"java/lang/StringBuilder", "length", "()I"⟩ : MethodName) prog_20_method_93_code 1 (Option.some FieldType.int) ∈ gws := gmc1 215 rfl rfl
theorem g_219 : Cond.methodLink "ConeForms" 57 (⟨"java/lang/StringBuilder", "append", "(C)Ljava/lang/StringBuilder;"⟩ : MethodName) ∈ gws := gmc1 219 (by decide +kernel) rfl
theorem g_220 : Cond.instanceMethod (⟨"java/lang/StringBuilder", "append", "(C)Ljava/lang/StringBuilder;"⟩ : MethodName) ∈ gws := gmc1 220 (by decide +kernel) rfl
theorem g_221 : Cond.selects "java/lang/StringBuilder" (⟨"java/lang/StringBuilder", "append", "(C)Ljava/lang/StringBuilder;"⟩ : MethodName) (⟨"java/lang/StringBuilder", "append", "(C)Ljava/lang/StringBuilder;"⟩ : MethodName) ∈ gws := gmc1 221 (by decide +kernel) rfl
set_option maxRecDepth 100000 in
theorem g_222 : Cond.code (⟨"java/lang/StringBuilder", "append", "(C)Ljava/lang/StringBuilder;"⟩ : MethodName) prog_20_method_14_code 2 (Option.some (FieldType.object "java/lang/StringBuilder")) ∈ gws := gmc1 222 rfl rfl
theorem g_158 : Cond.fieldLink "ConeForms" 61 "ConeForms" "refused" "Z" ∈ gws := gmc1 158 (by decide +kernel) rfl
theorem g_216 : Cond.methodLink "java/lang/StringBuilder" 343 (⟨"java/lang/AbstractStringBuilder", "length", "()I"⟩ : MethodName) ∈ gws := gmc1 216 (by decide +kernel) rfl
theorem g_1435 : Cond.sameMethod "java/lang/AbstractStringBuilder" "java/lang/AbstractStringBuilder" "length" "()I" ∈ gws := gmc6 235 (by decide +kernel) rfl
theorem g_66 : Cond.superclass "java/lang/StringBuilder" "java/lang/AbstractStringBuilder" ∈ gws := gmc1 66 (by decide +kernel) rfl
theorem g_217 : Cond.instanceMethod (⟨"java/lang/AbstractStringBuilder", "length", "()I"⟩ : MethodName) ∈ gws := gmc1 217 (by decide +kernel) rfl
set_option maxRecDepth 100000 in
theorem g_218 : Cond.code (⟨"java/lang/AbstractStringBuilder", "length", "()I"⟩ : MethodName) prog_14_method_6_code 1 (Option.some FieldType.int) ∈ gws := gmc1 218 rfl rfl
theorem g_57 : Cond.fieldLink "java/lang/AbstractStringBuilder" 79 "java/lang/AbstractStringBuilder" "count" "I" ∈ gws := gmc1 57 (by decide +kernel) rfl
theorem g_223 : Cond.methodLink "java/lang/StringBuilder" 50 (⟨"java/lang/AbstractStringBuilder", "append", "(C)Ljava/lang/AbstractStringBuilder;"⟩ : MethodName) ∈ gws := gmc1 223 (by decide +kernel) rfl
theorem g_1436 : Cond.sameMethod "java/lang/AbstractStringBuilder" "java/lang/AbstractStringBuilder" "append" "(C)Ljava/lang/AbstractStringBuilder;" ∈ gws := gmc6 236 (by decide +kernel) rfl
theorem g_224 : Cond.instanceMethod (⟨"java/lang/AbstractStringBuilder", "append", "(C)Ljava/lang/AbstractStringBuilder;"⟩ : MethodName) ∈ gws := gmc1 224 (by decide +kernel) rfl
set_option maxRecDepth 100000 in
theorem g_225 : Cond.code (⟨"java/lang/AbstractStringBuilder", "append", "(C)Ljava/lang/AbstractStringBuilder;"⟩ : MethodName) prog_14_method_31_code 2 (Option.some (FieldType.object "java/lang/AbstractStringBuilder")) ∈ gws := gmc1 225 rfl rfl
theorem g_226 : Cond.methodLink "java/lang/AbstractStringBuilder" 100 (⟨"java/lang/AbstractStringBuilder", "ensureCapacityInternal", "(I)V"⟩ : MethodName) ∈ gws := gmc1 226 (by decide +kernel) rfl
theorem g_228 : Cond.instanceMethod (⟨"java/lang/AbstractStringBuilder", "ensureCapacityInternal", "(I)V"⟩ : MethodName) ∈ gws := gmc1 228 (by decide +kernel) rfl
set_option maxRecDepth 100000 in
theorem g_229 : Cond.code (⟨"java/lang/AbstractStringBuilder", "ensureCapacityInternal", "(I)V"⟩ : MethodName) prog_14_method_9_code 3 (Option.none : Option FieldType) ∈ gws := gmc1 229 rfl rfl
theorem g_261 : Cond.methodLink "java/lang/AbstractStringBuilder" 83 (⟨"java/lang/AbstractStringBuilder", "isLatin1", "()Z"⟩ : MethodName) ∈ gws := gmc2 21 (by decide +kernel) rfl
theorem g_262 : Cond.instanceMethod (⟨"java/lang/AbstractStringBuilder", "isLatin1", "()Z"⟩ : MethodName) ∈ gws := gmc2 22 (by decide +kernel) rfl
theorem g_264 : Cond.selects "java/lang/StringBuilder" (⟨"java/lang/AbstractStringBuilder", "isLatin1", "()Z"⟩ : MethodName) (⟨"java/lang/AbstractStringBuilder", "isLatin1", "()Z"⟩ : MethodName) ∈ gws := gmc2 24 (by decide +kernel) rfl
set_option maxRecDepth 100000 in
theorem g_265 : Cond.code (⟨"java/lang/AbstractStringBuilder", "isLatin1", "()Z"⟩ : MethodName) prog_14_method_68_code 1 (Option.some FieldType.boolean) ∈ gws := gmc2 25 rfl rfl
theorem g_266 : Cond.methodLink "java/lang/AbstractStringBuilder" 191 (⟨"java/lang/StringLatin1", "canEncode", "(C)Z"⟩ : MethodName) ∈ gws := gmc2 26 (by decide +kernel) rfl
theorem g_267 : Cond.static (⟨"java/lang/StringLatin1", "canEncode", "(C)Z"⟩ : MethodName) ∈ gws := gmc2 27 (by decide +kernel) rfl
theorem g_16 : Cond.initialized "java/lang/StringLatin1" ∈ gws := gmc1 16 (by decide +kernel) rfl
set_option maxRecDepth 100000 in
theorem g_268 : Cond.code (⟨"java/lang/StringLatin1", "canEncode", "(C)Z"⟩ : MethodName) prog_21_method_3_code 1 (Option.some FieldType.boolean) ∈ gws := gmc2 28 rfl rfl
theorem g_230 : Cond.methodLink "java/lang/AbstractStringBuilder" 104 (⟨"java/lang/AbstractStringBuilder", "newCapacity", "(I)I"⟩ : MethodName) ∈ gws := gmc1 230 (by decide +kernel) rfl
theorem g_232 : Cond.instanceMethod (⟨"java/lang/AbstractStringBuilder", "newCapacity", "(I)I"⟩ : MethodName) ∈ gws := gmc1 232 (by decide +kernel) rfl
set_option maxRecDepth 100000 in
theorem g_233 : Cond.code (⟨"java/lang/AbstractStringBuilder", "newCapacity", "(I)I"⟩ : MethodName) prog_14_method_10_code 6 (Option.some FieldType.int) ∈ gws := gmc1 233 rfl rfl
theorem g_245 : Cond.methodLink "java/lang/AbstractStringBuilder" 108 (⟨"java/util/Arrays", "copyOf", "([BI)[B"⟩ : MethodName) ∈ gws := gmc2 5 (by decide +kernel) rfl
theorem g_246 : Cond.static (⟨"java/util/Arrays", "copyOf", "([BI)[B"⟩ : MethodName) ∈ gws := gmc2 6 (by decide +kernel) rfl
theorem g_14 : Cond.initialized "java/util/Arrays" ∈ gws := gmc1 14 (by decide +kernel) rfl
set_option maxRecDepth 100000 in
theorem g_247 : Cond.code (⟨"java/util/Arrays", "copyOf", "([BI)[B"⟩ : MethodName) prog_28_method_121_code 3 (Option.some (FieldType.array FieldType.byte)) ∈ gws := gmc2 7 rfl rfl
theorem g_234 : Cond.methodLink "java/lang/AbstractStringBuilder" 114 (⟨"jdk/internal/util/ArraysSupport", "newLength", "(III)I"⟩ : MethodName) ∈ gws := gmc1 234 (by decide +kernel) rfl
theorem g_235 : Cond.static (⟨"jdk/internal/util/ArraysSupport", "newLength", "(III)I"⟩ : MethodName) ∈ gws := gmc1 235 (by decide +kernel) rfl
theorem g_12 : Cond.initialized "jdk/internal/util/ArraysSupport" ∈ gws := gmc1 12 (by decide +kernel) rfl
set_option maxRecDepth 100000 in
theorem g_236 : Cond.code (⟨"jdk/internal/util/ArraysSupport", "newLength", "(III)I"⟩ : MethodName) prog_35_method_27_code 4 (Option.some FieldType.int) ∈ gws := gmc1 236 rfl rfl
theorem g_244 : Cond.constant "java/lang/AbstractStringBuilder" 39 (2147483647 : Int32) ∈ gws := gmc2 4 (by decide +kernel) rfl
theorem g_237 : Cond.methodLink "jdk/internal/util/ArraysSupport" 194 (⟨"java/lang/Math", "max", "(II)I"⟩ : MethodName) ∈ gws := gmc1 237 (by decide +kernel) rfl
theorem g_238 : Cond.static (⟨"java/lang/Math", "max", "(II)I"⟩ : MethodName) ∈ gws := gmc1 238 (by decide +kernel) rfl
theorem g_13 : Cond.initialized "java/lang/Math" ∈ gws := gmc1 13 (by decide +kernel) rfl
set_option maxRecDepth 100000 in
theorem g_239 : Cond.code (⟨"java/lang/Math", "max", "(II)I"⟩ : MethodName) prog_18_method_65_code 2 (Option.some FieldType.int) ∈ gws := gmc1 239 rfl rfl
theorem g_240 : Cond.constant "jdk/internal/util/ArraysSupport" 200 (2147483639 : Int32) ∈ gws := gmc2 0 (by decide +kernel) rfl
theorem g_255 : Cond.methodLink "java/util/Arrays" 304 (⟨"java/lang/Math", "min", "(II)I"⟩ : MethodName) ∈ gws := gmc2 15 (by decide +kernel) rfl
theorem g_256 : Cond.static (⟨"java/lang/Math", "min", "(II)I"⟩ : MethodName) ∈ gws := gmc2 16 (by decide +kernel) rfl
set_option maxRecDepth 100000 in
theorem g_257 : Cond.code (⟨"java/lang/Math", "min", "(II)I"⟩ : MethodName) prog_18_method_69_code 2 (Option.some FieldType.int) ∈ gws := gmc2 17 rfl rfl
theorem g_258 : Cond.methodLink "java/util/Arrays" 150 (⟨"java/lang/System", "arraycopy", "(Ljava/lang/Object;ILjava/lang/Object;II)V"⟩ : MethodName) ∈ gws := gmc2 18 (by decide +kernel) rfl
theorem g_260 : Cond.native (⟨"java/lang/System", "arraycopy", "(Ljava/lang/Object;ILjava/lang/Object;II)V"⟩ : MethodName) ∈ gws := gmc2 20 (by decide +kernel) rfl
theorem g_259 : Cond.static (⟨"java/lang/System", "arraycopy", "(Ljava/lang/Object;ILjava/lang/Object;II)V"⟩ : MethodName) ∈ gws := gmc2 19 (by decide +kernel) rfl
theorem g_15 : Cond.initialized "java/lang/System" ∈ gws := gmc1 15 (by decide +kernel) rfl
theorem g_288 : Cond.fieldLink "java/lang/String" 1053 "jdk/internal/util/Preconditions" "SIOOBE_FORMATTER" "Ljava/util/function/BiFunction;" ∈ gws := gmc2 48 (by decide +kernel) rfl
theorem g_311 : Cond.methodLink "java/lang/String" 1059 (⟨"jdk/internal/util/Preconditions", "checkIndex", "(IILjava/util/function/BiFunction;)I"⟩ : MethodName) ∈ gws := gmc2 71 (by decide +kernel) rfl
theorem g_312 : Cond.static (⟨"jdk/internal/util/Preconditions", "checkIndex", "(IILjava/util/function/BiFunction;)I"⟩ : MethodName) ∈ gws := gmc2 72 (by decide +kernel) rfl
theorem g_17 : Cond.initialized "jdk/internal/util/Preconditions" ∈ gws := gmc1 17 (by decide +kernel) rfl
set_option maxRecDepth 100000 in
theorem g_313 : Cond.code (⟨"jdk/internal/util/Preconditions", "checkIndex", "(IILjava/util/function/BiFunction;)I"⟩ : MethodName) prog_36_method_11_code 3 (Option.some FieldType.int) ∈ gws := gmc2 73 rfl rfl
theorem g_318 : Cond.methodLink "ConeForms" 65 (⟨"java/lang/StringBuilder", "setLength", "(I)V"⟩ : MethodName) ∈ gws := gmc2 78 (by decide +kernel) rfl
theorem g_319 : Cond.instanceMethod (⟨"java/lang/StringBuilder", "setLength", "(I)V"⟩ : MethodName) ∈ gws := gmc2 79 (by decide +kernel) rfl
theorem g_320 : Cond.selects "java/lang/StringBuilder" (⟨"java/lang/StringBuilder", "setLength", "(I)V"⟩ : MethodName) (⟨"java/lang/StringBuilder", "setLength", "(I)V"⟩ : MethodName) ∈ gws := gmc2 80 (by decide +kernel) rfl
set_option maxRecDepth 100000 in
theorem g_321 : Cond.code (⟨"java/lang/StringBuilder", "setLength", "(I)V"⟩ : MethodName) prog_20_method_89_code 2 (Option.none : Option FieldType) ∈ gws := gmc2 81 rfl rfl
theorem g_322 : Cond.methodLink "java/lang/StringBuilder" 333 (⟨"java/lang/AbstractStringBuilder", "setLength", "(I)V"⟩ : MethodName) ∈ gws := gmc2 82 (by decide +kernel) rfl
theorem g_1440 : Cond.sameMethod "java/lang/AbstractStringBuilder" "java/lang/AbstractStringBuilder" "setLength" "(I)V" ∈ gws := gmc7 0 (by decide +kernel) rfl
theorem g_323 : Cond.instanceMethod (⟨"java/lang/AbstractStringBuilder", "setLength", "(I)V"⟩ : MethodName) ∈ gws := gmc2 83 (by decide +kernel) rfl
set_option maxRecDepth 100000 in
theorem g_324 : Cond.code (⟨"java/lang/AbstractStringBuilder", "setLength", "(I)V"⟩ : MethodName) prog_14_method_13_code 2 (Option.none : Option FieldType) ∈ gws := gmc2 84 rfl rfl
theorem g_56 : Cond.fieldLink "java/lang/AbstractStringBuilder" 73 "java/lang/AbstractStringBuilder" "maybeLatin1" "Z" ∈ gws := gmc1 56 (by decide +kernel) rfl
theorem g_159 : Cond.fieldLink "ConeForms" 68 "ConeForms" "refusal" "I" ∈ gws := gmc1 159 (by decide +kernel) rfl
theorem g_342 : Cond.methodLink "ConeForms" 72 (⟨"java/util/ArrayList", "size", "()I"⟩ : MethodName) ∈ gws := gmc2 102 (by decide +kernel) rfl
theorem g_343 : Cond.instanceMethod (⟨"java/util/ArrayList", "size", "()I"⟩ : MethodName) ∈ gws := gmc2 103 (by decide +kernel) rfl
theorem g_344 : Cond.selects "java/util/ArrayList" (⟨"java/util/ArrayList", "size", "()I"⟩ : MethodName) (⟨"java/util/ArrayList", "size", "()I"⟩ : MethodName) ∈ gws := gmc2 104 (by decide +kernel) rfl
set_option maxRecDepth 100000 in
theorem g_345 : Cond.code (⟨"java/util/ArrayList", "size", "()I"⟩ : MethodName) prog_26_method_8_code 1 (Option.some FieldType.int) ∈ gws := gmc2 105 rfl rfl
theorem g_346 : Cond.methodLink "ConeForms" 75 (⟨"ConeForms$Scanner", "scan", "()Z"⟩ : MethodName) ∈ gws := gmc2 106 (by decide +kernel) rfl
theorem g_347 : Cond.instanceMethod (⟨"ConeForms$Scanner", "scan", "()Z"⟩ : MethodName) ∈ gws := gmc2 107 (by decide +kernel) rfl
theorem g_348 : Cond.selects "ConeForms$Scanner" (⟨"ConeForms$Scanner", "scan", "()Z"⟩ : MethodName) (⟨"ConeForms$Scanner", "scan", "()Z"⟩ : MethodName) ∈ gws := gmc2 108 (by decide +kernel) rfl
set_option maxRecDepth 100000 in
theorem g_349 : Cond.code (⟨"ConeForms$Scanner", "scan", "()Z"⟩ : MethodName) prog_9_method_2_code 2 (Option.some FieldType.boolean) ∈ gws := gmc2 109 rfl rfl
theorem g_425 : Cond.methodLink "ConeForms" 79 (⟨"ConeForms", "make", "(I)I"⟩ : MethodName) ∈ gws := gmc2 185 (by decide +kernel) rfl
theorem g_427 : Cond.instanceMethod (⟨"ConeForms", "make", "(I)I"⟩ : MethodName) ∈ gws := gmc2 187 (by decide +kernel) rfl
theorem g_1 : Cond.initialized "ConeForms" ∈ gws := gmc1 1 (by decide +kernel) rfl
set_option maxRecDepth 100000 in
theorem g_428 : Cond.code (⟨"ConeForms", "make", "(I)I"⟩ : MethodName) prog_1_method_7_code 12 (Option.some FieldType.int) ∈ gws := gmc2 188 rfl rfl
theorem k_n78 : Cond.fieldLinkNest "ConeForms" 83 "ConeForms$Scanner" "at" "I" "ConeForms" ∈ nws := nm_t (tc1 (List.mem_of_getElem? (i := 78) (by decide +kernel))) rfl
theorem g_799 : Cond.methodLink "ConeForms" 86 (⟨"java/util/ArrayList", "remove", "(I)Ljava/lang/Object;"⟩ : MethodName) ∈ gws := gmc4 79 (by decide +kernel) rfl
theorem g_800 : Cond.instanceMethod (⟨"java/util/ArrayList", "remove", "(I)Ljava/lang/Object;"⟩ : MethodName) ∈ gws := gmc4 80 (by decide +kernel) rfl
theorem g_801 : Cond.selects "java/util/ArrayList" (⟨"java/util/ArrayList", "remove", "(I)Ljava/lang/Object;"⟩ : MethodName) (⟨"java/util/ArrayList", "remove", "(I)Ljava/lang/Object;"⟩ : MethodName) ∈ gws := gmc4 81 (by decide +kernel) rfl
set_option maxRecDepth 100000 in
theorem g_802 : Cond.code (⟨"java/util/ArrayList", "remove", "(I)Ljava/lang/Object;"⟩ : MethodName) prog_26_method_29_code 4 (Option.some (FieldType.object "java/lang/Object")) ∈ gws := gmc4 82 rfl rfl
theorem g_127 : Cond.fieldLink "java/util/ArrayList" 48 "java/util/ArrayList" "size" "I" ∈ gws := gmc1 127 (by decide +kernel) rfl
theorem g_77 : Cond.fieldLink "ConeForms$Scanner" 32 "ConeForms$Scanner" "at" "I" ∈ gws := gmc1 77 (by decide +kernel) rfl
theorem g_79 : Cond.fieldLink "ConeForms$Scanner" 36 "ConeForms$Scanner" "operand" "Z" ∈ gws := gmc1 79 (by decide +kernel) rfl
theorem g_80 : Cond.fieldLink "ConeForms$Scanner" 40 "ConeForms$Scanner" "steps" "I" ∈ gws := gmc1 80 (by decide +kernel) rfl
theorem g_88 : Cond.fieldLink "ConeForms$Scanner" 43 "ConeForms$Scanner" "top" "I" ∈ gws := gmc1 88 (by decide +kernel) rfl
theorem g_350 : Cond.methodLink "ConeForms$Scanner" 46 (⟨"java/lang/StringBuilder", "length", "()I"⟩ : MethodName) ∈ gws := gmc2 110 (by decide +kernel) rfl
theorem g_351 : Cond.methodLink "ConeForms$Scanner" 52 (⟨"java/lang/StringBuilder", "charAt", "(I)C"⟩ : MethodName) ∈ gws := gmc2 111 (by decide +kernel) rfl
theorem g_352 : Cond.instanceMethod (⟨"java/lang/StringBuilder", "charAt", "(I)C"⟩ : MethodName) ∈ gws := gmc2 112 (by decide +kernel) rfl
theorem g_353 : Cond.selects "java/lang/StringBuilder" (⟨"java/lang/StringBuilder", "charAt", "(I)C"⟩ : MethodName) (⟨"java/lang/StringBuilder", "charAt", "(I)C"⟩ : MethodName) ∈ gws := gmc2 113 (by decide +kernel) rfl
set_option maxRecDepth 100000 in
theorem g_354 : Cond.code (⟨"java/lang/StringBuilder", "charAt", "(I)C"⟩ : MethodName) prog_20_method_88_code 2 (Option.some FieldType.char) ∈ gws := gmc2 114 rfl rfl
theorem g_363 : Cond.methodLink "ConeForms$Scanner" 56 (⟨"ConeForms$Scanner", "first", "(C)Z"⟩ : MethodName) ∈ gws := gmc2 123 (by decide +kernel) rfl
theorem g_365 : Cond.instanceMethod (⟨"ConeForms$Scanner", "first", "(C)Z"⟩ : MethodName) ∈ gws := gmc2 125 (by decide +kernel) rfl
set_option maxRecDepth 100000 in
theorem g_366 : Cond.code (⟨"ConeForms$Scanner", "first", "(C)Z"⟩ : MethodName) prog_9_method_7_code 3 (Option.some FieldType.boolean) ∈ gws := gmc2 126 rfl rfl
theorem g_414 : Cond.methodLink "ConeForms$Scanner" 60 (⟨"ConeForms$Scanner", "then", "(C)Z"⟩ : MethodName) ∈ gws := gmc2 174 (by decide +kernel) rfl
theorem g_416 : Cond.instanceMethod (⟨"ConeForms$Scanner", "then", "(C)Z"⟩ : MethodName) ∈ gws := gmc2 176 (by decide +kernel) rfl
set_option maxRecDepth 100000 in
theorem g_417 : Cond.code (⟨"ConeForms$Scanner", "then", "(C)Z"⟩ : MethodName) prog_9_method_8_code 2 (Option.some FieldType.boolean) ∈ gws := gmc2 177 rfl rfl
theorem g_418 : Cond.methodLink "ConeForms$Scanner" 63 (⟨"ConeForms$Scanner", "reduce", "(I)V"⟩ : MethodName) ∈ gws := gmc2 178 (by decide +kernel) rfl
theorem g_420 : Cond.instanceMethod (⟨"ConeForms$Scanner", "reduce", "(I)V"⟩ : MethodName) ∈ gws := gmc2 180 (by decide +kernel) rfl
set_option maxRecDepth 100000 in
theorem g_421 : Cond.code (⟨"ConeForms$Scanner", "reduce", "(I)V"⟩ : MethodName) prog_9_method_10_code 2 (Option.none : Option FieldType) ∈ gws := gmc2 181 rfl rfl
theorem g_355 : Cond.methodLink "java/lang/StringBuilder" 329 (⟨"java/lang/AbstractStringBuilder", "charAt", "(I)C"⟩ : MethodName) ∈ gws := gmc2 115 (by decide +kernel) rfl
theorem g_1441 : Cond.sameMethod "java/lang/AbstractStringBuilder" "java/lang/AbstractStringBuilder" "charAt" "(I)C" ∈ gws := gmc7 1 (by decide +kernel) rfl
theorem g_356 : Cond.instanceMethod (⟨"java/lang/AbstractStringBuilder", "charAt", "(I)C"⟩ : MethodName) ∈ gws := gmc2 116 (by decide +kernel) rfl
set_option maxRecDepth 100000 in
theorem g_357 : Cond.code (⟨"java/lang/AbstractStringBuilder", "charAt", "(I)C"⟩ : MethodName) prog_14_method_14_code 5 (Option.some FieldType.char) ∈ gws := gmc2 117 rfl rfl
theorem g_358 : Cond.methodLink "java/lang/AbstractStringBuilder" 138 (⟨"java/lang/Math", "min", "(II)I"⟩ : MethodName) ∈ gws := gmc2 118 (by decide +kernel) rfl
theorem g_359 : Cond.methodLink "java/lang/AbstractStringBuilder" 144 (⟨"java/lang/String", "checkIndex", "(II)V"⟩ : MethodName) ∈ gws := gmc2 119 (by decide +kernel) rfl
theorem g_309 : Cond.static (⟨"java/lang/String", "checkIndex", "(II)V"⟩ : MethodName) ∈ gws := gmc2 69 (by decide +kernel) rfl
theorem g_4 : Cond.initialized "java/lang/String" ∈ gws := gmc1 4 (by decide +kernel) rfl
set_option maxRecDepth 100000 in
theorem g_310 : Cond.code (⟨"java/lang/String", "checkIndex", "(II)V"⟩ : MethodName) prog_19_method_155_code 2 (Option.none : Option FieldType) ∈ gws := gmc2 70 rfl rfl
theorem g_367 : Cond.methodLink "ConeForms$Scanner" 67 (⟨"ConeForms$Scanner", "digit", "()Z"⟩ : MethodName) ∈ gws := gmc2 127 (by decide +kernel) rfl
theorem g_369 : Cond.instanceMethod (⟨"ConeForms$Scanner", "digit", "()Z"⟩ : MethodName) ∈ gws := gmc2 129 (by decide +kernel) rfl
set_option maxRecDepth 100000 in
theorem g_370 : Cond.code (⟨"ConeForms$Scanner", "digit", "()Z"⟩ : MethodName) prog_9_method_3_code 1 (Option.some FieldType.boolean) ∈ gws := gmc2 130 rfl rfl
theorem g_371 : Cond.methodLink "ConeForms$Scanner" 71 (⟨"ConeForms$Scanner", "number", "(I)I"⟩ : MethodName) ∈ gws := gmc2 131 (by decide +kernel) rfl
theorem g_373 : Cond.instanceMethod (⟨"ConeForms$Scanner", "number", "(I)I"⟩ : MethodName) ∈ gws := gmc2 133 (by decide +kernel) rfl
set_option maxRecDepth 100000 in
theorem g_374 : Cond.code (⟨"ConeForms$Scanner", "number", "(I)I"⟩ : MethodName) prog_9_method_4_code 4 (Option.some FieldType.int) ∈ gws := gmc2 134 rfl rfl
theorem g_375 : Cond.fieldLink "ConeForms$Scanner" 75 "ConeForms$Kind" "NUMBER" "LConeForms$Kind;" ∈ gws := gmc2 135 (by decide +kernel) rfl
theorem g_377 : Cond.methodLink "ConeForms$Scanner" 79 (⟨"ConeForms$Scanner", "step", "(LConeForms$Kind;I)V"⟩ : MethodName) ∈ gws := gmc2 137 (by decide +kernel) rfl
theorem g_379 : Cond.instanceMethod (⟨"ConeForms$Scanner", "step", "(LConeForms$Kind;I)V"⟩ : MethodName) ∈ gws := gmc2 139 (by decide +kernel) rfl
set_option maxRecDepth 100000 in
theorem g_380 : Cond.code (⟨"ConeForms$Scanner", "step", "(LConeForms$Kind;I)V"⟩ : MethodName) prog_9_method_5_code 3 (Option.none : Option FieldType) ∈ gws := gmc2 140 rfl rfl
theorem g_381 : Cond.fieldLink "ConeForms$Scanner" 83 "ConeForms$Kind" "VARIABLE" "LConeForms$Kind;" ∈ gws := gmc2 141 (by decide +kernel) rfl
theorem g_383 : Cond.fieldLink "ConeForms$Scanner" 86 "ConeForms$Kind" "PARAMETER" "LConeForms$Kind;" ∈ gws := gmc2 143 (by decide +kernel) rfl
theorem g_385 : Cond.methodLink "ConeForms$Scanner" 89 (⟨"ConeForms$Scanner", "push", "(CI)V"⟩ : MethodName) ∈ gws := gmc2 145 (by decide +kernel) rfl
theorem g_387 : Cond.instanceMethod (⟨"ConeForms$Scanner", "push", "(CI)V"⟩ : MethodName) ∈ gws := gmc2 147 (by decide +kernel) rfl
set_option maxRecDepth 100000 in
theorem g_388 : Cond.code (⟨"ConeForms$Scanner", "push", "(CI)V"⟩ : MethodName) prog_9_method_6_code 3 (Option.none : Option FieldType) ∈ gws := gmc2 148 rfl rfl
theorem g_389 : Cond.methodLink "ConeForms$Scanner" 93 (⟨"ConeForms$Scanner", "kindOf", "(C)LConeForms$Kind;"⟩ : MethodName) ∈ gws := gmc2 149 (by decide +kernel) rfl
theorem g_390 : Cond.static (⟨"ConeForms$Scanner", "kindOf", "(C)LConeForms$Kind;"⟩ : MethodName) ∈ gws := gmc2 150 (by decide +kernel) rfl
set_option maxRecDepth 100000 in
theorem g_391 : Cond.code (⟨"ConeForms$Scanner", "kindOf", "(C)LConeForms$Kind;"⟩ : MethodName) prog_9_method_11_code 1 (Option.some (FieldType.object "ConeForms$Kind")) ∈ gws := gmc2 151 rfl rfl
theorem g_410 : Cond.methodLink "ConeForms$Scanner" 97 (⟨"ConeForms$Kind", "bent", "()Z"⟩ : MethodName) ∈ gws := gmc2 170 (by decide +kernel) rfl
theorem g_411 : Cond.instanceMethod (⟨"ConeForms$Kind", "bent", "()Z"⟩ : MethodName) ∈ gws := gmc2 171 (by decide +kernel) rfl
theorem g_412 : Cond.selects "ConeForms$Kind" (⟨"ConeForms$Kind", "bent", "()Z"⟩ : MethodName) (⟨"ConeForms$Kind", "bent", "()Z"⟩ : MethodName) ∈ gws := gmc2 172 (by decide +kernel) rfl
theorem g_19 : Cond.initialized "ConeForms$Kind" ∈ gws := gmc1 19 (by decide +kernel) rfl
set_option maxRecDepth 100000 in
theorem g_413 : Cond.code (⟨"ConeForms$Kind", "bent", "()Z"⟩ : MethodName) prog_3_method_4_code 1 (Option.some FieldType.boolean) ∈ gws := gmc2 173 rfl rfl
theorem k_n1462 : Cond.fieldLinkNest "ConeForms$Scanner" 100 "ConeForms$Kind" "arity" "I" "ConeForms" ∈ nws := nm_t (tc7 (List.mem_of_getElem? (i := 22) (by decide +kernel))) rfl
theorem g_392 : Cond.fieldLink "ConeForms$Scanner" 107 "ConeForms$Kind" "SUM" "LConeForms$Kind;" ∈ gws := gmc2 152 (by decide +kernel) rfl
theorem g_394 : Cond.fieldLink "ConeForms$Scanner" 110 "ConeForms$Kind" "DIFFERENCE" "LConeForms$Kind;" ∈ gws := gmc2 154 (by decide +kernel) rfl
theorem g_396 : Cond.fieldLink "ConeForms$Scanner" 113 "ConeForms$Kind" "NEGATION" "LConeForms$Kind;" ∈ gws := gmc2 156 (by decide +kernel) rfl
theorem g_398 : Cond.fieldLink "ConeForms$Scanner" 116 "ConeForms$Kind" "PRODUCT" "LConeForms$Kind;" ∈ gws := gmc2 158 (by decide +kernel) rfl
theorem g_400 : Cond.fieldLink "ConeForms$Scanner" 119 "ConeForms$Kind" "MAX" "LConeForms$Kind;" ∈ gws := gmc2 160 (by decide +kernel) rfl
theorem g_402 : Cond.fieldLink "ConeForms$Scanner" 122 "ConeForms$Kind" "MIN" "LConeForms$Kind;" ∈ gws := gmc2 162 (by decide +kernel) rfl
theorem g_404 : Cond.fieldLink "ConeForms$Scanner" 125 "ConeForms$Kind" "ABS" "LConeForms$Kind;" ∈ gws := gmc2 164 (by decide +kernel) rfl
theorem g_406 : Cond.fieldLink "ConeForms$Scanner" 128 "ConeForms$Kind" "SQUARE" "LConeForms$Kind;" ∈ gws := gmc2 166 (by decide +kernel) rfl
theorem g_408 : Cond.fieldLink "ConeForms$Scanner" 131 "ConeForms$Kind" "PAIRS" "LConeForms$Kind;" ∈ gws := gmc2 168 (by decide +kernel) rfl
theorem g_1461 : Cond.fieldLink "ConeForms$Kind" 65 "ConeForms$Kind" "bend" "I" ∈ gws := gmc7 21 (by decide +kernel) rfl
theorem g_422 : Cond.methodLink "ConeForms$Scanner" 103 (⟨"ConeForms$Scanner", "rank", "(C)I"⟩ : MethodName) ∈ gws := gmc2 182 (by decide +kernel) rfl
theorem g_423 : Cond.static (⟨"ConeForms$Scanner", "rank", "(C)I"⟩ : MethodName) ∈ gws := gmc2 183 (by decide +kernel) rfl
set_option maxRecDepth 100000 in
theorem g_424 : Cond.code (⟨"ConeForms$Scanner", "rank", "(C)I"⟩ : MethodName) prog_9_method_9_code 1 (Option.some FieldType.int) ∈ gws := gmc2 184 rfl rfl
theorem k_n81 : Cond.fieldLinkNest "ConeForms" 90 "ConeForms$Scanner" "steps" "I" "ConeForms" ∈ nws := nm_t (tc1 (List.mem_of_getElem? (i := 81) (by decide +kernel))) rfl
theorem k_n83 : Cond.fieldLinkNest "ConeForms" 93 "ConeForms$Scanner" "kinds" "[LConeForms$Kind;" "ConeForms" ∈ nws := nm_t (tc1 (List.mem_of_getElem? (i := 83) (by decide +kernel))) rfl
theorem k_n85 : Cond.fieldLinkNest "ConeForms" 97 "ConeForms$Scanner" "data" "[I" "ConeForms" ∈ nws := nm_t (tc1 (List.mem_of_getElem? (i := 85) (by decide +kernel))) rfl
theorem g_429 : Cond.methodLink "ConeForms" 101 (⟨"java/util/ArrayList", "get", "(I)Ljava/lang/Object;"⟩ : MethodName) ∈ gws := gmc2 189 (by decide +kernel) rfl
theorem g_430 : Cond.instanceMethod (⟨"java/util/ArrayList", "get", "(I)Ljava/lang/Object;"⟩ : MethodName) ∈ gws := gmc2 190 (by decide +kernel) rfl
theorem g_431 : Cond.selects "java/util/ArrayList" (⟨"java/util/ArrayList", "get", "(I)Ljava/lang/Object;"⟩ : MethodName) (⟨"java/util/ArrayList", "get", "(I)Ljava/lang/Object;"⟩ : MethodName) ∈ gws := gmc2 191 (by decide +kernel) rfl
set_option maxRecDepth 100000 in
theorem g_432 : Cond.code (⟨"java/util/ArrayList", "get", "(I)Ljava/lang/Object;"⟩ : MethodName) prog_26_method_20_code 2 (Option.some (FieldType.object "java/lang/Object")) ∈ gws := gmc2 192 rfl rfl
theorem k_n1463 : Cond.fieldLinkNest "ConeForms" 104 "ConeForms$Kind" "arity" "I" "ConeForms" ∈ nws := nm_t (tc7 (List.mem_of_getElem? (i := 23) (by decide +kernel))) rfl
theorem g_441 : Cond.methodLink "ConeForms" 109 (⟨"ConeForms", "equal", "(LConeForms$Kind;ILConeForms$Node;LConeForms$Node;LConeForms$Node;)LConeForms$Node;"⟩ : MethodName) ∈ gws := gmc2 201 (by decide +kernel) rfl
theorem g_443 : Cond.instanceMethod (⟨"ConeForms", "equal", "(LConeForms$Kind;ILConeForms$Node;LConeForms$Node;LConeForms$Node;)LConeForms$Node;"⟩ : MethodName) ∈ gws := gmc2 203 (by decide +kernel) rfl
set_option maxRecDepth 100000 in
theorem g_444 : Cond.code (⟨"ConeForms", "equal", "(LConeForms$Kind;ILConeForms$Node;LConeForms$Node;LConeForms$Node;)LConeForms$Node;"⟩ : MethodName) prog_1_method_8_code 8 (Option.some (FieldType.object "ConeForms$Node")) ∈ gws := gmc2 204 rfl rfl
theorem g_445 : Cond.methodLink "ConeForms" 113 (⟨"ConeForms", "fresh", "(LConeForms$Kind;ILConeForms$Node;LConeForms$Node;LConeForms$Node;)LConeForms$Node;"⟩ : MethodName) ∈ gws := gmc2 205 (by decide +kernel) rfl
theorem g_446 : Cond.static (⟨"ConeForms", "fresh", "(LConeForms$Kind;ILConeForms$Node;LConeForms$Node;LConeForms$Node;)LConeForms$Node;"⟩ : MethodName) ∈ gws := gmc2 206 (by decide +kernel) rfl
set_option maxRecDepth 100000 in
theorem g_447 : Cond.code (⟨"ConeForms", "fresh", "(LConeForms$Kind;ILConeForms$Node;LConeForms$Node;LConeForms$Node;)LConeForms$Node;"⟩ : MethodName) prog_1_method_9_code 5 (Option.some (FieldType.object "ConeForms$Node")) ∈ gws := gmc2 207 rfl rfl
theorem g_627 : Cond.methodLink "ConeForms" 116 (⟨"ConeForms$Node", "span", "()J"⟩ : MethodName) ∈ gws := gmc3 147 (by decide +kernel) rfl
theorem k_n628 : Cond.declares (⟨"ConeForms$Node", "span", "()J"⟩ : MethodName) ∈ nws := nm_t (tc3 (List.mem_of_getElem? (i := 148) (by decide +kernel))) rfl
theorem g_629 : Cond.sameMethod "ConeForms$Node" "ConeForms$Node" "span" "()J" ∈ gws := gmc3 149 (by decide +kernel) rfl
theorem g_641 : Cond.instanceMethod (⟨"ConeForms$Leaf", "span", "()J"⟩ : MethodName) ∈ gws := gmc3 161 (by decide +kernel) rfl
theorem g_640 : Cond.selects "ConeForms$Leaf" (⟨"ConeForms$Node", "span", "()J"⟩ : MethodName) (⟨"ConeForms$Leaf", "span", "()J"⟩ : MethodName) ∈ gws := gmc3 160 (by decide +kernel) rfl
theorem g_22 : Cond.initialized "ConeForms$Leaf" ∈ gws := gmc1 22 (by decide +kernel) rfl
set_option maxRecDepth 100000 in
theorem g_642 : Cond.code (⟨"ConeForms$Leaf", "span", "()J"⟩ : MethodName) prog_4_method_2_code 1 (Option.some FieldType.long) ∈ gws := gmc3 162 rfl rfl
theorem g_631 : Cond.instanceMethod (⟨"ConeForms$Bend", "span", "()J"⟩ : MethodName) ∈ gws := gmc3 151 (by decide +kernel) rfl
theorem g_630 : Cond.selects "ConeForms$Bend" (⟨"ConeForms$Node", "span", "()J"⟩ : MethodName) (⟨"ConeForms$Bend", "span", "()J"⟩ : MethodName) ∈ gws := gmc3 150 (by decide +kernel) rfl
theorem g_23 : Cond.initialized "ConeForms$Bend" ∈ gws := gmc1 23 (by decide +kernel) rfl
set_option maxRecDepth 100000 in
theorem g_632 : Cond.code (⟨"ConeForms$Bend", "span", "()J"⟩ : MethodName) prog_2_method_2_code 1 (Option.some FieldType.long) ∈ gws := gmc3 152 rfl rfl
theorem g_651 : Cond.instanceMethod (⟨"ConeForms$Product", "span", "()J"⟩ : MethodName) ∈ gws := gmc3 171 (by decide +kernel) rfl
theorem g_650 : Cond.selects "ConeForms$Product" (⟨"ConeForms$Node", "span", "()J"⟩ : MethodName) (⟨"ConeForms$Product", "span", "()J"⟩ : MethodName) ∈ gws := gmc3 170 (by decide +kernel) rfl
theorem g_24 : Cond.initialized "ConeForms$Product" ∈ gws := gmc1 24 (by decide +kernel) rfl
set_option maxRecDepth 100000 in
theorem g_652 : Cond.code (⟨"ConeForms$Product", "span", "()J"⟩ : MethodName) prog_7_method_2_code 1 (Option.some FieldType.long) ∈ gws := gmc3 172 rfl rfl
theorem g_648 : Cond.instanceMethod (⟨"ConeForms$Linear", "span", "()J"⟩ : MethodName) ∈ gws := gmc3 168 (by decide +kernel) rfl
theorem g_647 : Cond.selects "ConeForms$Linear" (⟨"ConeForms$Node", "span", "()J"⟩ : MethodName) (⟨"ConeForms$Linear", "span", "()J"⟩ : MethodName) ∈ gws := gmc3 167 (by decide +kernel) rfl
theorem g_25 : Cond.initialized "ConeForms$Linear" ∈ gws := gmc1 25 (by decide +kernel) rfl
set_option maxRecDepth 100000 in
theorem g_649 : Cond.code (⟨"ConeForms$Linear", "span", "()J"⟩ : MethodName) prog_5_method_2_code 1 (Option.some FieldType.long) ∈ gws := gmc3 169 rfl rfl
theorem g_653 : Cond.constantLong "ConeForms" 120 (1000000 : Int64) ∈ gws := gmc3 173 (by decide +kernel) rfl
theorem g_654 : Cond.methodLink "ConeForms" 122 (⟨"ConeForms", "settle", "(LConeForms$Node;I)V"⟩ : MethodName) ∈ gws := gmc3 174 (by decide +kernel) rfl
theorem g_656 : Cond.instanceMethod (⟨"ConeForms", "settle", "(LConeForms$Node;I)V"⟩ : MethodName) ∈ gws := gmc3 176 (by decide +kernel) rfl
set_option maxRecDepth 100000 in
theorem g_657 : Cond.code (⟨"ConeForms", "settle", "(LConeForms$Node;I)V"⟩ : MethodName) prog_1_method_10_code 3 (Option.none : Option FieldType) ∈ gws := gmc3 177 rfl rfl
theorem g_501 : Cond.fieldLink "ConeForms" 126 "ConeForms$Node" "index" "I" ∈ gws := gmc3 21 (by decide +kernel) rfl
theorem g_433 : Cond.methodLink "java/util/ArrayList" 118 (⟨"java/util/Objects", "checkIndex", "(II)I"⟩ : MethodName) ∈ gws := gmc2 193 (by decide +kernel) rfl
theorem g_434 : Cond.static (⟨"java/util/Objects", "checkIndex", "(II)I"⟩ : MethodName) ∈ gws := gmc2 194 (by decide +kernel) rfl
theorem g_20 : Cond.initialized "java/util/Objects" ∈ gws := gmc1 20 (by decide +kernel) rfl
set_option maxRecDepth 100000 in
theorem g_435 : Cond.code (⟨"java/util/Objects", "checkIndex", "(II)I"⟩ : MethodName) prog_32_method_17_code 2 (Option.some FieldType.int) ∈ gws := gmc2 195 rfl rfl
theorem g_437 : Cond.methodLink "java/util/ArrayList" 123 (⟨"java/util/ArrayList", "elementData", "(I)Ljava/lang/Object;"⟩ : MethodName) ∈ gws := gmc2 197 (by decide +kernel) rfl
theorem g_438 : Cond.instanceMethod (⟨"java/util/ArrayList", "elementData", "(I)Ljava/lang/Object;"⟩ : MethodName) ∈ gws := gmc2 198 (by decide +kernel) rfl
theorem g_439 : Cond.selects "java/util/ArrayList" (⟨"java/util/ArrayList", "elementData", "(I)Ljava/lang/Object;"⟩ : MethodName) (⟨"java/util/ArrayList", "elementData", "(I)Ljava/lang/Object;"⟩ : MethodName) ∈ gws := gmc2 199 (by decide +kernel) rfl
set_option maxRecDepth 100000 in
theorem g_440 : Cond.code (⟨"java/util/ArrayList", "elementData", "(I)Ljava/lang/Object;"⟩ : MethodName) prog_26_method_18_code 2 (Option.some (FieldType.object "java/lang/Object")) ∈ gws := gmc2 200 rfl rfl
theorem g_436 : Cond.methodLink "java/util/Objects" 105 (⟨"jdk/internal/util/Preconditions", "checkIndex", "(IILjava/util/function/BiFunction;)I"⟩ : MethodName) ∈ gws := gmc2 196 (by decide +kernel) rfl
theorem g_465 : Cond.fieldLink "ConeForms" 129 "ConeForms$Node" "kind" "LConeForms$Kind;" ∈ gws := gmc2 225 (by decide +kernel) rfl
theorem g_469 : Cond.fieldLink "ConeForms" 133 "ConeForms$Node" "data" "I" ∈ gws := gmc2 229 (by decide +kernel) rfl
theorem g_477 : Cond.fieldLink "ConeForms" 135 "ConeForms$Node" "a" "LConeForms$Node;" ∈ gws := gmc2 237 (by decide +kernel) rfl
theorem g_485 : Cond.fieldLink "ConeForms" 139 "ConeForms$Node" "b" "LConeForms$Node;" ∈ gws := gmc3 5 (by decide +kernel) rfl
theorem g_489 : Cond.fieldLink "ConeForms" 142 "ConeForms$Node" "c" "LConeForms$Node;" ∈ gws := gmc3 9 (by decide +kernel) rfl
theorem g_448 : Cond.classLink "ConeForms" 145 "ConeForms$Leaf" ∈ gws := gmc2 208 (by decide +kernel) rfl
theorem g_449 : Cond.instantiable "ConeForms$Leaf" 14 ∈ gws := gmc2 209 (by decide +kernel) rfl
theorem g_450 : Cond.methodLink "ConeForms" 147 (⟨"ConeForms$Leaf", "<init>", "(LConeForms$Kind;I)V"⟩ : MethodName) ∈ gws := gmc2 210 (by decide +kernel) rfl
theorem g_451 : Cond.instanceMethod (⟨"ConeForms$Leaf", "<init>", "(LConeForms$Kind;I)V"⟩ : MethodName) ∈ gws := gmc2 211 (by decide +kernel) rfl
set_option maxRecDepth 100000 in
theorem g_452 : Cond.code (⟨"ConeForms$Leaf", "<init>", "(LConeForms$Kind;I)V"⟩ : MethodName) prog_4_method_1_code 3 (Option.none : Option FieldType) ∈ gws := gmc2 212 rfl rfl
theorem g_557 : Cond.methodLink "ConeForms" 150 (⟨"ConeForms$Kind", "bent", "()Z"⟩ : MethodName) ∈ gws := gmc3 77 (by decide +kernel) rfl
theorem g_558 : Cond.classLink "ConeForms" 153 "ConeForms$Bend" ∈ gws := gmc3 78 (by decide +kernel) rfl
theorem g_559 : Cond.instantiable "ConeForms$Bend" 15 ∈ gws := gmc3 79 (by decide +kernel) rfl
theorem g_560 : Cond.methodLink "ConeForms" 155 (⟨"ConeForms$Bend", "<init>", "(LConeForms$Kind;LConeForms$Node;LConeForms$Node;LConeForms$Node;)V"⟩ : MethodName) ∈ gws := gmc3 80 (by decide +kernel) rfl
theorem g_561 : Cond.instanceMethod (⟨"ConeForms$Bend", "<init>", "(LConeForms$Kind;LConeForms$Node;LConeForms$Node;LConeForms$Node;)V"⟩ : MethodName) ∈ gws := gmc3 81 (by decide +kernel) rfl
set_option maxRecDepth 100000 in
theorem g_562 : Cond.code (⟨"ConeForms$Bend", "<init>", "(LConeForms$Kind;LConeForms$Node;LConeForms$Node;LConeForms$Node;)V"⟩ : MethodName) prog_2_method_1_code 5 (Option.none : Option FieldType) ∈ gws := gmc3 82 rfl rfl
theorem g_583 : Cond.fieldLink "ConeForms" 158 "ConeForms$Kind" "PRODUCT" "LConeForms$Kind;" ∈ gws := gmc3 103 (by decide +kernel) rfl
theorem g_584 : Cond.classLink "ConeForms" 161 "ConeForms$Product" ∈ gws := gmc3 104 (by decide +kernel) rfl
theorem g_585 : Cond.instantiable "ConeForms$Product" 14 ∈ gws := gmc3 105 (by decide +kernel) rfl
theorem g_586 : Cond.methodLink "ConeForms" 163 (⟨"ConeForms$Product", "<init>", "(LConeForms$Node;LConeForms$Node;)V"⟩ : MethodName) ∈ gws := gmc3 106 (by decide +kernel) rfl
theorem g_587 : Cond.instanceMethod (⟨"ConeForms$Product", "<init>", "(LConeForms$Node;LConeForms$Node;)V"⟩ : MethodName) ∈ gws := gmc3 107 (by decide +kernel) rfl
set_option maxRecDepth 100000 in
theorem g_588 : Cond.code (⟨"ConeForms$Product", "<init>", "(LConeForms$Node;LConeForms$Node;)V"⟩ : MethodName) prog_7_method_1_code 3 (Option.none : Option FieldType) ∈ gws := gmc3 108 rfl rfl
theorem g_606 : Cond.classLink "ConeForms" 166 "ConeForms$Linear" ∈ gws := gmc3 126 (by decide +kernel) rfl
theorem g_607 : Cond.instantiable "ConeForms$Linear" 14 ∈ gws := gmc3 127 (by decide +kernel) rfl
theorem g_608 : Cond.methodLink "ConeForms" 168 (⟨"ConeForms$Linear", "<init>", "(LConeForms$Kind;LConeForms$Node;LConeForms$Node;)V"⟩ : MethodName) ∈ gws := gmc3 128 (by decide +kernel) rfl
theorem g_609 : Cond.instanceMethod (⟨"ConeForms$Linear", "<init>", "(LConeForms$Kind;LConeForms$Node;LConeForms$Node;)V"⟩ : MethodName) ∈ gws := gmc3 129 (by decide +kernel) rfl
set_option maxRecDepth 100000 in
theorem g_610 : Cond.code (⟨"ConeForms$Linear", "<init>", "(LConeForms$Kind;LConeForms$Node;LConeForms$Node;)V"⟩ : MethodName) prog_5_method_1_code 4 (Option.none : Option FieldType) ∈ gws := gmc3 130 rfl rfl
theorem g_453 : Cond.methodLink "ConeForms$Leaf" 3 (⟨"ConeForms$Node", "<init>", "(LConeForms$Kind;ILConeForms$Node;LConeForms$Node;LConeForms$Node;)V"⟩ : MethodName) ∈ gws := gmc2 213 (by decide +kernel) rfl
theorem g_454 : Cond.instanceMethod (⟨"ConeForms$Node", "<init>", "(LConeForms$Kind;ILConeForms$Node;LConeForms$Node;LConeForms$Node;)V"⟩ : MethodName) ∈ gws := gmc2 214 (by decide +kernel) rfl
theorem g_21 : Cond.initialized "ConeForms$Node" ∈ gws := gmc1 21 (by decide +kernel) rfl
set_option maxRecDepth 100000 in
theorem g_455 : Cond.code (⟨"ConeForms$Node", "<init>", "(LConeForms$Kind;ILConeForms$Node;LConeForms$Node;LConeForms$Node;)V"⟩ : MethodName) prog_6_method_1_code 6 (Option.none : Option FieldType) ∈ gws := gmc2 215 rfl rfl
theorem g_457 : Cond.fieldLink "ConeForms$Leaf" 9 "ConeForms$Kind" "NUMBER" "LConeForms$Kind;" ∈ gws := gmc2 217 (by decide +kernel) rfl
theorem g_503 : Cond.fieldLink "ConeForms$Leaf" 15 "ConeForms$Leaf" "value" "I" ∈ gws := gmc3 23 (by decide +kernel) rfl
theorem g_504 : Cond.sameField "ConeForms$Leaf" "ConeForms$Node" "value" "I" ∈ gws := gmc3 24 (by decide +kernel) rfl
theorem g_456 : Cond.methodLink "ConeForms$Node" 3 (⟨"java/lang/Object", "<init>", "()V"⟩ : MethodName) ∈ gws := gmc2 216 (by decide +kernel) rfl
theorem g_524 : Cond.fieldLink "ConeForms$Node" 9 "ConeForms$Node" "column" "I" ∈ gws := gmc3 44 (by decide +kernel) rfl
theorem g_458 : Cond.fieldLink "ConeForms$Node" 15 "ConeForms$Node" "kind" "LConeForms$Kind;" ∈ gws := gmc2 218 (by decide +kernel) rfl
theorem g_466 : Cond.fieldLink "ConeForms$Node" 19 "ConeForms$Node" "data" "I" ∈ gws := gmc2 226 (by decide +kernel) rfl
theorem g_470 : Cond.fieldLink "ConeForms$Node" 22 "ConeForms$Node" "a" "LConeForms$Node;" ∈ gws := gmc2 230 (by decide +kernel) rfl
theorem g_478 : Cond.fieldLink "ConeForms$Node" 26 "ConeForms$Node" "b" "LConeForms$Node;" ∈ gws := gmc2 238 (by decide +kernel) rfl
theorem g_486 : Cond.fieldLink "ConeForms$Node" 29 "ConeForms$Node" "c" "LConeForms$Node;" ∈ gws := gmc3 6 (by decide +kernel) rfl
theorem g_563 : Cond.methodLink "ConeForms$Bend" 3 (⟨"ConeForms$Node", "<init>", "(LConeForms$Kind;ILConeForms$Node;LConeForms$Node;LConeForms$Node;)V"⟩ : MethodName) ∈ gws := gmc3 83 (by decide +kernel) rfl
theorem g_589 : Cond.fieldLink "ConeForms$Product" 3 "ConeForms$Kind" "PRODUCT" "LConeForms$Kind;" ∈ gws := gmc3 109 (by decide +kernel) rfl
theorem g_590 : Cond.methodLink "ConeForms$Product" 9 (⟨"ConeForms$Node", "<init>", "(LConeForms$Kind;ILConeForms$Node;LConeForms$Node;LConeForms$Node;)V"⟩ : MethodName) ∈ gws := gmc3 110 (by decide +kernel) rfl
theorem g_611 : Cond.methodLink "ConeForms$Linear" 1 (⟨"ConeForms$Node", "<init>", "(LConeForms$Kind;ILConeForms$Node;LConeForms$Node;LConeForms$Node;)V"⟩ : MethodName) ∈ gws := gmc3 131 (by decide +kernel) rfl
theorem g_459 : Cond.fieldLink "ConeForms$Bend" 9 "ConeForms$Bend" "kind" "LConeForms$Kind;" ∈ gws := gmc2 219 (by decide +kernel) rfl
theorem g_460 : Cond.sameField "ConeForms$Bend" "ConeForms$Node" "kind" "LConeForms$Kind;" ∈ gws := gmc2 220 (by decide +kernel) rfl
theorem g_633 : Cond.methodLink "ConeForms$Bend" 15 (⟨"ConeForms$Kind", "ordinal", "()I"⟩ : MethodName) ∈ gws := gmc3 153 (by decide +kernel) rfl
theorem k_n635 : Cond.declares (⟨"java/lang/Enum", "ordinal", "()I"⟩ : MethodName) ∈ nws := nm_t (tc3 (List.mem_of_getElem? (i := 155) (by decide +kernel))) rfl
theorem g_634 : Cond.sameMethod "ConeForms$Kind" "java/lang/Enum" "ordinal" "()I" ∈ gws := gmc3 154 (by decide +kernel) rfl
theorem g_637 : Cond.instanceMethod (⟨"java/lang/Enum", "ordinal", "()I"⟩ : MethodName) ∈ gws := gmc3 157 (by decide +kernel) rfl
theorem g_636 : Cond.selects "ConeForms$Kind" (⟨"ConeForms$Kind", "ordinal", "()I"⟩ : MethodName) (⟨"java/lang/Enum", "ordinal", "()I"⟩ : MethodName) ∈ gws := gmc3 156 (by decide +kernel) rfl
theorem g_18 : Cond.initialized "java/lang/Enum" ∈ gws := gmc1 18 (by decide +kernel) rfl
set_option maxRecDepth 100000 in
theorem g_638 : Cond.code (⟨"java/lang/Enum", "ordinal", "()I"⟩ : MethodName) prog_16_method_2_code 1 (Option.some FieldType.int) ∈ gws := gmc3 158 rfl rfl
theorem g_475 : Cond.fieldLink "ConeForms$Bend" 21 "ConeForms$Bend" "a" "LConeForms$Node;" ∈ gws := gmc2 235 (by decide +kernel) rfl
theorem g_476 : Cond.sameField "ConeForms$Bend" "ConeForms$Node" "a" "LConeForms$Node;" ∈ gws := gmc2 236 (by decide +kernel) rfl
theorem g_513 : Cond.fieldLink "ConeForms$Bend" 25 "ConeForms$Node" "reach" "I" ∈ gws := gmc3 33 (by decide +kernel) rfl
theorem g_483 : Cond.fieldLink "ConeForms$Bend" 29 "ConeForms$Bend" "b" "LConeForms$Node;" ∈ gws := gmc3 3 (by decide +kernel) rfl
theorem g_484 : Cond.sameField "ConeForms$Bend" "ConeForms$Node" "b" "LConeForms$Node;" ∈ gws := gmc3 4 (by decide +kernel) rfl
theorem g_487 : Cond.fieldLink "ConeForms$Bend" 32 "ConeForms$Bend" "c" "LConeForms$Node;" ∈ gws := gmc3 7 (by decide +kernel) rfl
theorem g_488 : Cond.sameField "ConeForms$Bend" "ConeForms$Node" "c" "LConeForms$Node;" ∈ gws := gmc3 8 (by decide +kernel) rfl
theorem g_639 : Cond.methodLink "ConeForms$Bend" 35 (⟨"java/lang/Math", "max", "(II)I"⟩ : MethodName) ∈ gws := gmc3 159 (by decide +kernel) rfl
theorem g_1464 : Cond.fieldLink "java/lang/Enum" 7 "java/lang/Enum" "ordinal" "I" ∈ gws := gmc7 24 (by decide +kernel) rfl
theorem g_461 : Cond.fieldLink "ConeForms$Leaf" 21 "ConeForms$Leaf" "kind" "LConeForms$Kind;" ∈ gws := gmc2 221 (by decide +kernel) rfl
theorem g_462 : Cond.sameField "ConeForms$Leaf" "ConeForms$Node" "kind" "LConeForms$Kind;" ∈ gws := gmc2 222 (by decide +kernel) rfl
theorem g_467 : Cond.fieldLink "ConeForms$Leaf" 24 "ConeForms$Leaf" "data" "I" ∈ gws := gmc2 227 (by decide +kernel) rfl
theorem g_468 : Cond.sameField "ConeForms$Leaf" "ConeForms$Node" "data" "I" ∈ gws := gmc2 228 (by decide +kernel) rfl
theorem g_643 : Cond.methodLink "ConeForms$Leaf" 27 (⟨"java/lang/Math", "max", "(II)I"⟩ : MethodName) ∈ gws := gmc3 163 (by decide +kernel) rfl
theorem g_644 : Cond.fieldLink "ConeForms$Leaf" 33 "ConeForms$Kind" "VARIABLE" "LConeForms$Kind;" ∈ gws := gmc3 164 (by decide +kernel) rfl
theorem g_645 : Cond.constantLong "ConeForms$Leaf" 36 (20 : Int64) ∈ gws := gmc3 165 (by decide +kernel) rfl
theorem g_646 : Cond.constantLong "ConeForms$Leaf" 38 (9 : Int64) ∈ gws := gmc3 166 (by decide +kernel) rfl
theorem g_479 : Cond.fieldLink "ConeForms$Linear" 7 "ConeForms$Linear" "b" "LConeForms$Node;" ∈ gws := gmc2 239 (by decide +kernel) rfl
theorem g_480 : Cond.sameField "ConeForms$Linear" "ConeForms$Node" "b" "LConeForms$Node;" ∈ gws := gmc3 0 (by decide +kernel) rfl
theorem g_473 : Cond.fieldLink "ConeForms$Linear" 13 "ConeForms$Linear" "a" "LConeForms$Node;" ∈ gws := gmc2 233 (by decide +kernel) rfl
theorem g_474 : Cond.sameField "ConeForms$Linear" "ConeForms$Node" "a" "LConeForms$Node;" ∈ gws := gmc2 234 (by decide +kernel) rfl
theorem g_512 : Cond.fieldLink "ConeForms$Linear" 16 "ConeForms$Node" "reach" "I" ∈ gws := gmc3 32 (by decide +kernel) rfl
theorem g_471 : Cond.fieldLink "ConeForms$Product" 15 "ConeForms$Product" "a" "LConeForms$Node;" ∈ gws := gmc2 231 (by decide +kernel) rfl
theorem g_472 : Cond.sameField "ConeForms$Product" "ConeForms$Node" "a" "LConeForms$Node;" ∈ gws := gmc2 232 (by decide +kernel) rfl
theorem g_511 : Cond.fieldLink "ConeForms$Product" 21 "ConeForms$Node" "reach" "I" ∈ gws := gmc3 31 (by decide +kernel) rfl
theorem g_481 : Cond.fieldLink "ConeForms$Product" 25 "ConeForms$Product" "b" "LConeForms$Node;" ∈ gws := gmc3 1 (by decide +kernel) rfl
theorem g_482 : Cond.sameField "ConeForms$Product" "ConeForms$Node" "b" "LConeForms$Node;" ∈ gws := gmc3 2 (by decide +kernel) rfl
theorem g_514 : Cond.fieldLink "ConeForms" 171 "ConeForms$Node" "reach" "I" ∈ gws := gmc3 34 (by decide +kernel) rfl
theorem g_658 : Cond.methodLink "ConeForms" 174 (⟨"ConeForms$Node", "signsDue", "()I"⟩ : MethodName) ∈ gws := gmc3 178 (by decide +kernel) rfl
theorem k_n659 : Cond.declares (⟨"ConeForms$Node", "signsDue", "()I"⟩ : MethodName) ∈ nws := nm_t (tc3 (List.mem_of_getElem? (i := 179) (by decide +kernel))) rfl
theorem g_660 : Cond.sameMethod "ConeForms$Node" "ConeForms$Node" "signsDue" "()I" ∈ gws := gmc3 180 (by decide +kernel) rfl
theorem g_665 : Cond.instanceMethod (⟨"ConeForms$Leaf", "signsDue", "()I"⟩ : MethodName) ∈ gws := gmc3 185 (by decide +kernel) rfl
theorem g_664 : Cond.selects "ConeForms$Leaf" (⟨"ConeForms$Node", "signsDue", "()I"⟩ : MethodName) (⟨"ConeForms$Leaf", "signsDue", "()I"⟩ : MethodName) ∈ gws := gmc3 184 (by decide +kernel) rfl
set_option maxRecDepth 100000 in
theorem g_666 : Cond.code (⟨"ConeForms$Leaf", "signsDue", "()I"⟩ : MethodName) prog_4_method_4_code 1 (Option.some FieldType.int) ∈ gws := gmc3 186 rfl rfl
theorem g_662 : Cond.instanceMethod (⟨"ConeForms$Bend", "signsDue", "()I"⟩ : MethodName) ∈ gws := gmc3 182 (by decide +kernel) rfl
theorem g_661 : Cond.selects "ConeForms$Bend" (⟨"ConeForms$Node", "signsDue", "()I"⟩ : MethodName) (⟨"ConeForms$Bend", "signsDue", "()I"⟩ : MethodName) ∈ gws := gmc3 181 (by decide +kernel) rfl
set_option maxRecDepth 100000 in
theorem g_663 : Cond.code (⟨"ConeForms$Bend", "signsDue", "()I"⟩ : MethodName) prog_2_method_4_code 1 (Option.some FieldType.int) ∈ gws := gmc3 183 rfl rfl
theorem g_676 : Cond.instanceMethod (⟨"ConeForms$Product", "signsDue", "()I"⟩ : MethodName) ∈ gws := gmc3 196 (by decide +kernel) rfl
theorem g_675 : Cond.selects "ConeForms$Product" (⟨"ConeForms$Node", "signsDue", "()I"⟩ : MethodName) (⟨"ConeForms$Product", "signsDue", "()I"⟩ : MethodName) ∈ gws := gmc3 195 (by decide +kernel) rfl
set_option maxRecDepth 100000 in
theorem g_677 : Cond.code (⟨"ConeForms$Product", "signsDue", "()I"⟩ : MethodName) prog_7_method_4_code 2 (Option.some FieldType.int) ∈ gws := gmc3 197 rfl rfl
theorem g_668 : Cond.instanceMethod (⟨"ConeForms$Linear", "signsDue", "()I"⟩ : MethodName) ∈ gws := gmc3 188 (by decide +kernel) rfl
theorem g_667 : Cond.selects "ConeForms$Linear" (⟨"ConeForms$Node", "signsDue", "()I"⟩ : MethodName) (⟨"ConeForms$Linear", "signsDue", "()I"⟩ : MethodName) ∈ gws := gmc3 187 (by decide +kernel) rfl
set_option maxRecDepth 100000 in
theorem g_669 : Cond.code (⟨"ConeForms$Linear", "signsDue", "()I"⟩ : MethodName) prog_5_method_4_code 1 (Option.some FieldType.int) ∈ gws := gmc3 189 rfl rfl
theorem g_518 : Cond.fieldLink "ConeForms" 177 "ConeForms$Node" "signs" "I" ∈ gws := gmc3 38 (by decide +kernel) rfl
theorem g_679 : Cond.methodLink "ConeForms" 180 (⟨"ConeForms$Node", "judge", "()V"⟩ : MethodName) ∈ gws := gmc3 199 (by decide +kernel) rfl
theorem g_680 : Cond.instanceMethod (⟨"ConeForms$Node", "judge", "()V"⟩ : MethodName) ∈ gws := gmc3 200 (by decide +kernel) rfl
theorem g_683 : Cond.selects "ConeForms$Leaf" (⟨"ConeForms$Node", "judge", "()V"⟩ : MethodName) (⟨"ConeForms$Node", "judge", "()V"⟩ : MethodName) ∈ gws := gmc3 203 (by decide +kernel) rfl
set_option maxRecDepth 100000 in
theorem g_686 : Cond.code (⟨"ConeForms$Node", "judge", "()V"⟩ : MethodName) prog_6_method_11_code 11 (Option.none : Option FieldType) ∈ gws := gmc3 206 rfl rfl
theorem g_682 : Cond.selects "ConeForms$Bend" (⟨"ConeForms$Node", "judge", "()V"⟩ : MethodName) (⟨"ConeForms$Node", "judge", "()V"⟩ : MethodName) ∈ gws := gmc3 202 (by decide +kernel) rfl
theorem g_685 : Cond.selects "ConeForms$Product" (⟨"ConeForms$Node", "judge", "()V"⟩ : MethodName) (⟨"ConeForms$Node", "judge", "()V"⟩ : MethodName) ∈ gws := gmc3 205 (by decide +kernel) rfl
theorem g_684 : Cond.selects "ConeForms$Linear" (⟨"ConeForms$Node", "judge", "()V"⟩ : MethodName) (⟨"ConeForms$Node", "judge", "()V"⟩ : MethodName) ∈ gws := gmc3 204 (by decide +kernel) rfl
theorem g_735 : Cond.methodLink "ConeForms" 183 (⟨"ConeForms$Node", "compute", "()I"⟩ : MethodName) ∈ gws := gmc4 15 (by decide +kernel) rfl
theorem k_n736 : Cond.declares (⟨"ConeForms$Node", "compute", "()I"⟩ : MethodName) ∈ nws := nm_t (tc4 (List.mem_of_getElem? (i := 16) (by decide +kernel))) rfl
theorem g_737 : Cond.sameMethod "ConeForms$Node" "ConeForms$Node" "compute" "()I" ∈ gws := gmc4 17 (by decide +kernel) rfl
theorem g_746 : Cond.instanceMethod (⟨"ConeForms$Leaf", "compute", "()I"⟩ : MethodName) ∈ gws := gmc4 26 (by decide +kernel) rfl
theorem g_745 : Cond.selects "ConeForms$Leaf" (⟨"ConeForms$Node", "compute", "()I"⟩ : MethodName) (⟨"ConeForms$Leaf", "compute", "()I"⟩ : MethodName) ∈ gws := gmc4 25 (by decide +kernel) rfl
set_option maxRecDepth 100000 in
theorem g_747 : Cond.code (⟨"ConeForms$Leaf", "compute", "()I"⟩ : MethodName) prog_4_method_3_code 1 (Option.some FieldType.int) ∈ gws := gmc4 27 rfl rfl
theorem g_739 : Cond.instanceMethod (⟨"ConeForms$Bend", "compute", "()I"⟩ : MethodName) ∈ gws := gmc4 19 (by decide +kernel) rfl
theorem g_738 : Cond.selects "ConeForms$Bend" (⟨"ConeForms$Node", "compute", "()I"⟩ : MethodName) (⟨"ConeForms$Bend", "compute", "()I"⟩ : MethodName) ∈ gws := gmc4 18 (by decide +kernel) rfl
set_option maxRecDepth 100000 in
theorem g_740 : Cond.code (⟨"ConeForms$Bend", "compute", "()I"⟩ : MethodName) prog_2_method_3_code 1 (Option.some FieldType.int) ∈ gws := gmc4 20 rfl rfl
theorem g_752 : Cond.instanceMethod (⟨"ConeForms$Product", "compute", "()I"⟩ : MethodName) ∈ gws := gmc4 32 (by decide +kernel) rfl
theorem g_751 : Cond.selects "ConeForms$Product" (⟨"ConeForms$Node", "compute", "()I"⟩ : MethodName) (⟨"ConeForms$Product", "compute", "()I"⟩ : MethodName) ∈ gws := gmc4 31 (by decide +kernel) rfl
set_option maxRecDepth 100000 in
theorem g_753 : Cond.code (⟨"ConeForms$Product", "compute", "()I"⟩ : MethodName) prog_7_method_3_code 1 (Option.some FieldType.int) ∈ gws := gmc4 33 rfl rfl
theorem g_749 : Cond.instanceMethod (⟨"ConeForms$Linear", "compute", "()I"⟩ : MethodName) ∈ gws := gmc4 29 (by decide +kernel) rfl
theorem g_748 : Cond.selects "ConeForms$Linear" (⟨"ConeForms$Node", "compute", "()I"⟩ : MethodName) (⟨"ConeForms$Linear", "compute", "()I"⟩ : MethodName) ∈ gws := gmc4 28 (by decide +kernel) rfl
set_option maxRecDepth 100000 in
theorem g_750 : Cond.code (⟨"ConeForms$Linear", "compute", "()I"⟩ : MethodName) prog_5_method_3_code 1 (Option.some FieldType.int) ∈ gws := gmc4 30 rfl rfl
theorem g_510 : Cond.fieldLink "ConeForms" 186 "ConeForms$Node" "value" "I" ∈ gws := gmc3 30 (by decide +kernel) rfl
theorem g_754 : Cond.methodLink "ConeForms" 189 (⟨"java/util/ArrayList", "add", "(Ljava/lang/Object;)Z"⟩ : MethodName) ∈ gws := gmc4 34 (by decide +kernel) rfl
theorem g_755 : Cond.instanceMethod (⟨"java/util/ArrayList", "add", "(Ljava/lang/Object;)Z"⟩ : MethodName) ∈ gws := gmc4 35 (by decide +kernel) rfl
theorem g_756 : Cond.selects "java/util/ArrayList" (⟨"java/util/ArrayList", "add", "(Ljava/lang/Object;)Z"⟩ : MethodName) (⟨"java/util/ArrayList", "add", "(Ljava/lang/Object;)Z"⟩ : MethodName) ∈ gws := gmc4 36 (by decide +kernel) rfl
set_option maxRecDepth 100000 in
theorem g_757 : Cond.code (⟨"java/util/ArrayList", "add", "(Ljava/lang/Object;)Z"⟩ : MethodName) prog_26_method_25_code 2 (Option.some FieldType.boolean) ∈ gws := gmc4 37 rfl rfl
theorem g_517 : Cond.fieldLink "ConeForms$Bend" 51 "ConeForms$Node" "signs" "I" ∈ gws := gmc3 37 (by decide +kernel) rfl
theorem g_463 : Cond.fieldLink "ConeForms$Linear" 20 "ConeForms$Linear" "kind" "LConeForms$Kind;" ∈ gws := gmc2 223 (by decide +kernel) rfl
theorem g_464 : Cond.sameField "ConeForms$Linear" "ConeForms$Node" "kind" "LConeForms$Kind;" ∈ gws := gmc2 224 (by decide +kernel) rfl
theorem g_670 : Cond.fieldLink "ConeForms$Linear" 24 "ConeForms$Kind" "SUM" "LConeForms$Kind;" ∈ gws := gmc3 190 (by decide +kernel) rfl
theorem g_516 : Cond.fieldLink "ConeForms$Linear" 35 "ConeForms$Node" "signs" "I" ∈ gws := gmc3 36 (by decide +kernel) rfl
theorem g_671 : Cond.fieldLink "ConeForms$Linear" 32 "ConeForms$Kind" "DIFFERENCE" "LConeForms$Kind;" ∈ gws := gmc3 191 (by decide +kernel) rfl
theorem k_n672 : Cond.methodLinkNest "ConeForms$Linear" 38 (⟨"ConeForms", "turned", "(I)I"⟩ : MethodName) "ConeForms" ∈ nws := nm_t (tc3 (List.mem_of_getElem? (i := 192) (by decide +kernel))) rfl
theorem g_673 : Cond.static (⟨"ConeForms", "turned", "(I)I"⟩ : MethodName) ∈ gws := gmc3 193 (by decide +kernel) rfl
set_option maxRecDepth 100000 in
theorem g_674 : Cond.code (⟨"ConeForms", "turned", "(I)I"⟩ : MethodName) prog_1_method_1_code 1 (Option.some FieldType.int) ∈ gws := gmc3 194 rfl rfl
theorem g_515 : Cond.fieldLink "ConeForms$Product" 31 "ConeForms$Node" "signs" "I" ∈ gws := gmc3 35 (by decide +kernel) rfl
theorem k_n678 : Cond.methodLinkNest "ConeForms$Product" 34 (⟨"ConeForms", "turned", "(I)I"⟩ : MethodName) "ConeForms" ∈ nws := nm_t (tc3 (List.mem_of_getElem? (i := 198) (by decide +kernel))) rfl
theorem k_n1465 : Cond.fieldLinkNest "ConeForms$Node" 35 "ConeForms$Kind" "bend" "I" "ConeForms" ∈ nws := nm_t (tc7 (List.mem_of_getElem? (i := 25) (by decide +kernel))) rfl
theorem k_n1466 : Cond.fieldLinkNest "ConeForms$Node" 51 "ConeForms$Kind" "arity" "I" "ConeForms" ∈ nws := nm_t (tc7 (List.mem_of_getElem? (i := 26) (by decide +kernel))) rfl
theorem g_687 : Cond.methodLink "ConeForms$Node" 40 (⟨"ConeForms$Node", "argument", "(I)LConeForms$Node;"⟩ : MethodName) ∈ gws := gmc3 207 (by decide +kernel) rfl
theorem g_688 : Cond.instanceMethod (⟨"ConeForms$Node", "argument", "(I)LConeForms$Node;"⟩ : MethodName) ∈ gws := gmc3 208 (by decide +kernel) rfl
theorem g_691 : Cond.selects "ConeForms$Leaf" (⟨"ConeForms$Node", "argument", "(I)LConeForms$Node;"⟩ : MethodName) (⟨"ConeForms$Node", "argument", "(I)LConeForms$Node;"⟩ : MethodName) ∈ gws := gmc3 211 (by decide +kernel) rfl
set_option maxRecDepth 100000 in
theorem g_694 : Cond.code (⟨"ConeForms$Node", "argument", "(I)LConeForms$Node;"⟩ : MethodName) prog_6_method_9_code 2 (Option.some (FieldType.object "ConeForms$Node")) ∈ gws := gmc3 214 rfl rfl
theorem g_690 : Cond.selects "ConeForms$Bend" (⟨"ConeForms$Node", "argument", "(I)LConeForms$Node;"⟩ : MethodName) (⟨"ConeForms$Node", "argument", "(I)LConeForms$Node;"⟩ : MethodName) ∈ gws := gmc3 210 (by decide +kernel) rfl
theorem g_693 : Cond.selects "ConeForms$Product" (⟨"ConeForms$Node", "argument", "(I)LConeForms$Node;"⟩ : MethodName) (⟨"ConeForms$Node", "argument", "(I)LConeForms$Node;"⟩ : MethodName) ∈ gws := gmc3 213 (by decide +kernel) rfl
theorem g_692 : Cond.selects "ConeForms$Linear" (⟨"ConeForms$Node", "argument", "(I)LConeForms$Node;"⟩ : MethodName) (⟨"ConeForms$Node", "argument", "(I)LConeForms$Node;"⟩ : MethodName) ∈ gws := gmc3 212 (by decide +kernel) rfl
theorem g_520 : Cond.fieldLink "ConeForms$Node" 44 "ConeForms$Node" "curvature" "I" ∈ gws := gmc3 40 (by decide +kernel) rfl
theorem g_695 : Cond.methodLink "ConeForms$Node" 54 (⟨"ConeForms$Node", "admits", "(II)Z"⟩ : MethodName) ∈ gws := gmc3 215 (by decide +kernel) rfl
theorem g_696 : Cond.instanceMethod (⟨"ConeForms$Node", "admits", "(II)Z"⟩ : MethodName) ∈ gws := gmc3 216 (by decide +kernel) rfl
theorem g_699 : Cond.selects "ConeForms$Leaf" (⟨"ConeForms$Node", "admits", "(II)Z"⟩ : MethodName) (⟨"ConeForms$Node", "admits", "(II)Z"⟩ : MethodName) ∈ gws := gmc3 219 (by decide +kernel) rfl
set_option maxRecDepth 100000 in
theorem g_702 : Cond.code (⟨"ConeForms$Node", "admits", "(II)Z"⟩ : MethodName) prog_6_method_10_code 5 (Option.some FieldType.boolean) ∈ gws := gmc3 222 rfl rfl
theorem g_698 : Cond.selects "ConeForms$Bend" (⟨"ConeForms$Node", "admits", "(II)Z"⟩ : MethodName) (⟨"ConeForms$Node", "admits", "(II)Z"⟩ : MethodName) ∈ gws := gmc3 218 (by decide +kernel) rfl
theorem g_701 : Cond.selects "ConeForms$Product" (⟨"ConeForms$Node", "admits", "(II)Z"⟩ : MethodName) (⟨"ConeForms$Node", "admits", "(II)Z"⟩ : MethodName) ∈ gws := gmc3 221 (by decide +kernel) rfl
theorem g_700 : Cond.selects "ConeForms$Linear" (⟨"ConeForms$Node", "admits", "(II)Z"⟩ : MethodName) (⟨"ConeForms$Node", "admits", "(II)Z"⟩ : MethodName) ∈ gws := gmc3 220 (by decide +kernel) rfl
theorem g_725 : Cond.methodLink "ConeForms$Node" 58 (⟨"ConeForms$Node", "shape", "()I"⟩ : MethodName) ∈ gws := gmc4 5 (by decide +kernel) rfl
theorem g_726 : Cond.instanceMethod (⟨"ConeForms$Node", "shape", "()I"⟩ : MethodName) ∈ gws := gmc4 6 (by decide +kernel) rfl
theorem g_729 : Cond.selects "ConeForms$Leaf" (⟨"ConeForms$Node", "shape", "()I"⟩ : MethodName) (⟨"ConeForms$Node", "shape", "()I"⟩ : MethodName) ∈ gws := gmc4 9 (by decide +kernel) rfl
set_option maxRecDepth 100000 in
theorem g_734 : Cond.code (⟨"ConeForms$Node", "shape", "()I"⟩ : MethodName) prog_6_method_8_code 1 (Option.some FieldType.int) ∈ gws := gmc4 14 rfl rfl
theorem g_728 : Cond.selects "ConeForms$Bend" (⟨"ConeForms$Node", "shape", "()I"⟩ : MethodName) (⟨"ConeForms$Node", "shape", "()I"⟩ : MethodName) ∈ gws := gmc4 8 (by decide +kernel) rfl
theorem g_727 : Cond.sameMethod "ConeForms$Node" "ConeForms$Node" "shape" "()I" ∈ gws := gmc4 7 (by decide +kernel) rfl
theorem g_732 : Cond.instanceMethod (⟨"ConeForms$Product", "shape", "()I"⟩ : MethodName) ∈ gws := gmc4 12 (by decide +kernel) rfl
theorem g_731 : Cond.selects "ConeForms$Product" (⟨"ConeForms$Node", "shape", "()I"⟩ : MethodName) (⟨"ConeForms$Product", "shape", "()I"⟩ : MethodName) ∈ gws := gmc4 11 (by decide +kernel) rfl
set_option maxRecDepth 100000 in
theorem g_733 : Cond.code (⟨"ConeForms$Product", "shape", "()I"⟩ : MethodName) prog_7_method_6_code 1 (Option.some FieldType.int) ∈ gws := gmc4 13 rfl rfl
theorem g_730 : Cond.selects "ConeForms$Linear" (⟨"ConeForms$Node", "shape", "()I"⟩ : MethodName) (⟨"ConeForms$Node", "shape", "()I"⟩ : MethodName) ∈ gws := gmc4 10 (by decide +kernel) rfl
theorem g_522 : Cond.fieldLink "ConeForms$Node" 62 "ConeForms$Node" "blame" "I" ∈ gws := gmc3 42 (by decide +kernel) rfl
theorem g_703 : Cond.methodLink "ConeForms$Node" 47 (⟨"ConeForms$Node", "slope", "(I)I"⟩ : MethodName) ∈ gws := gmc3 223 (by decide +kernel) rfl
theorem k_n704 : Cond.declares (⟨"ConeForms$Node", "slope", "(I)I"⟩ : MethodName) ∈ nws := nm_t (tc3 (List.mem_of_getElem? (i := 224) (by decide +kernel))) rfl
theorem g_705 : Cond.sameMethod "ConeForms$Node" "ConeForms$Node" "slope" "(I)I" ∈ gws := gmc3 225 (by decide +kernel) rfl
theorem g_715 : Cond.instanceMethod (⟨"ConeForms$Leaf", "slope", "(I)I"⟩ : MethodName) ∈ gws := gmc3 235 (by decide +kernel) rfl
theorem g_714 : Cond.selects "ConeForms$Leaf" (⟨"ConeForms$Node", "slope", "(I)I"⟩ : MethodName) (⟨"ConeForms$Leaf", "slope", "(I)I"⟩ : MethodName) ∈ gws := gmc3 234 (by decide +kernel) rfl
set_option maxRecDepth 100000 in
theorem g_716 : Cond.code (⟨"ConeForms$Leaf", "slope", "(I)I"⟩ : MethodName) prog_4_method_5_code 2 (Option.some FieldType.int) ∈ gws := gmc3 236 rfl rfl
theorem g_707 : Cond.instanceMethod (⟨"ConeForms$Bend", "slope", "(I)I"⟩ : MethodName) ∈ gws := gmc3 227 (by decide +kernel) rfl
theorem g_706 : Cond.selects "ConeForms$Bend" (⟨"ConeForms$Node", "slope", "(I)I"⟩ : MethodName) (⟨"ConeForms$Bend", "slope", "(I)I"⟩ : MethodName) ∈ gws := gmc3 226 (by decide +kernel) rfl
set_option maxRecDepth 100000 in
theorem g_708 : Cond.code (⟨"ConeForms$Bend", "slope", "(I)I"⟩ : MethodName) prog_2_method_5_code 2 (Option.some FieldType.int) ∈ gws := gmc3 228 rfl rfl
theorem g_722 : Cond.instanceMethod (⟨"ConeForms$Product", "slope", "(I)I"⟩ : MethodName) ∈ gws := gmc4 2 (by decide +kernel) rfl
theorem g_721 : Cond.selects "ConeForms$Product" (⟨"ConeForms$Node", "slope", "(I)I"⟩ : MethodName) (⟨"ConeForms$Product", "slope", "(I)I"⟩ : MethodName) ∈ gws := gmc4 1 (by decide +kernel) rfl
set_option maxRecDepth 100000 in
theorem g_723 : Cond.code (⟨"ConeForms$Product", "slope", "(I)I"⟩ : MethodName) prog_7_method_5_code 2 (Option.some FieldType.int) ∈ gws := gmc4 3 rfl rfl
theorem g_718 : Cond.instanceMethod (⟨"ConeForms$Linear", "slope", "(I)I"⟩ : MethodName) ∈ gws := gmc3 238 (by decide +kernel) rfl
theorem g_717 : Cond.selects "ConeForms$Linear" (⟨"ConeForms$Node", "slope", "(I)I"⟩ : MethodName) (⟨"ConeForms$Linear", "slope", "(I)I"⟩ : MethodName) ∈ gws := gmc3 237 (by decide +kernel) rfl
set_option maxRecDepth 100000 in
theorem g_719 : Cond.code (⟨"ConeForms$Linear", "slope", "(I)I"⟩ : MethodName) prog_5_method_5_code 2 (Option.some FieldType.int) ∈ gws := gmc3 239 rfl rfl
theorem g_709 : Cond.fieldLink "ConeForms$Bend" 54 "ConeForms$Kind" "ABS" "LConeForms$Kind;" ∈ gws := gmc3 229 (by decide +kernel) rfl
theorem g_710 : Cond.fieldLink "ConeForms$Bend" 57 "ConeForms$Kind" "SQUARE" "LConeForms$Kind;" ∈ gws := gmc3 230 (by decide +kernel) rfl
theorem k_n711 : Cond.methodLinkNest "ConeForms$Bend" 60 (⟨"ConeForms", "upOrDown", "(I)I"⟩ : MethodName) "ConeForms" ∈ nws := nm_t (tc3 (List.mem_of_getElem? (i := 231) (by decide +kernel))) rfl
theorem g_712 : Cond.static (⟨"ConeForms", "upOrDown", "(I)I"⟩ : MethodName) ∈ gws := gmc3 232 (by decide +kernel) rfl
set_option maxRecDepth 100000 in
theorem g_713 : Cond.code (⟨"ConeForms", "upOrDown", "(I)I"⟩ : MethodName) prog_1_method_2_code 1 (Option.some FieldType.int) ∈ gws := gmc3 233 rfl rfl
theorem g_720 : Cond.fieldLink "ConeForms$Linear" 44 "ConeForms$Kind" "NEGATION" "LConeForms$Kind;" ∈ gws := gmc4 0 (by decide +kernel) rfl
theorem k_n724 : Cond.methodLinkNest "ConeForms$Product" 38 (⟨"ConeForms", "upOrDown", "(I)I"⟩ : MethodName) "ConeForms" ∈ nws := nm_t (tc4 (List.mem_of_getElem? (i := 4) (by decide +kernel))) rfl
theorem g_519 : Cond.fieldLink "ConeForms$Product" 41 "ConeForms$Node" "curvature" "I" ∈ gws := gmc3 39 (by decide +kernel) rfl
theorem g_508 : Cond.fieldLink "ConeForms$Bend" 41 "ConeForms$Node" "value" "I" ∈ gws := gmc3 28 (by decide +kernel) rfl
theorem g_741 : Cond.methodLink "ConeForms$Bend" 44 (⟨"java/lang/Math", "min", "(II)I"⟩ : MethodName) ∈ gws := gmc4 21 (by decide +kernel) rfl
theorem g_742 : Cond.methodLink "ConeForms$Bend" 47 (⟨"java/lang/Math", "abs", "(I)I"⟩ : MethodName) ∈ gws := gmc4 22 (by decide +kernel) rfl
theorem g_743 : Cond.static (⟨"java/lang/Math", "abs", "(I)I"⟩ : MethodName) ∈ gws := gmc4 23 (by decide +kernel) rfl
set_option maxRecDepth 100000 in
theorem g_744 : Cond.code (⟨"java/lang/Math", "abs", "(I)I"⟩ : MethodName) prog_18_method_59_code 1 (Option.some FieldType.int) ∈ gws := gmc4 24 rfl rfl
theorem g_507 : Cond.fieldLink "ConeForms$Linear" 29 "ConeForms$Node" "value" "I" ∈ gws := gmc3 27 (by decide +kernel) rfl
theorem g_506 : Cond.fieldLink "ConeForms$Product" 28 "ConeForms$Node" "value" "I" ∈ gws := gmc3 26 (by decide +kernel) rfl
theorem g_131 : Cond.fieldLink "java/util/ArrayList" 63 "java/util/ArrayList" "modCount" "I" ∈ gws := gmc1 131 (by decide +kernel) rfl
theorem g_130 : Cond.sameField "java/util/ArrayList" "java/util/AbstractList" "modCount" "I" ∈ gws := gmc1 130 (by decide +kernel) rfl
theorem g_758 : Cond.methodLink "java/util/ArrayList" 131 (⟨"java/util/ArrayList", "add", "(Ljava/lang/Object;[Ljava/lang/Object;I)V"⟩ : MethodName) ∈ gws := gmc4 38 (by decide +kernel) rfl
theorem g_760 : Cond.instanceMethod (⟨"java/util/ArrayList", "add", "(Ljava/lang/Object;[Ljava/lang/Object;I)V"⟩ : MethodName) ∈ gws := gmc4 40 (by decide +kernel) rfl
set_option maxRecDepth 100000 in
theorem g_761 : Cond.code (⟨"java/util/ArrayList", "add", "(Ljava/lang/Object;[Ljava/lang/Object;I)V"⟩ : MethodName) prog_26_method_24_code 4 (Option.none : Option FieldType) ∈ gws := gmc4 41 rfl rfl
theorem g_762 : Cond.methodLink "java/util/ArrayList" 129 (⟨"java/util/ArrayList", "grow", "()[Ljava/lang/Object;"⟩ : MethodName) ∈ gws := gmc4 42 (by decide +kernel) rfl
theorem g_764 : Cond.instanceMethod (⟨"java/util/ArrayList", "grow", "()[Ljava/lang/Object;"⟩ : MethodName) ∈ gws := gmc4 44 (by decide +kernel) rfl
set_option maxRecDepth 100000 in
theorem g_765 : Cond.code (⟨"java/util/ArrayList", "grow", "()[Ljava/lang/Object;"⟩ : MethodName) prog_26_method_7_code 1 (Option.some (FieldType.array (FieldType.object "java/lang/Object"))) ∈ gws := gmc4 45 rfl rfl
theorem g_766 : Cond.methodLink "java/util/ArrayList" 69 (⟨"java/util/ArrayList", "grow", "(I)[Ljava/lang/Object;"⟩ : MethodName) ∈ gws := gmc4 46 (by decide +kernel) rfl
theorem g_768 : Cond.instanceMethod (⟨"java/util/ArrayList", "grow", "(I)[Ljava/lang/Object;"⟩ : MethodName) ∈ gws := gmc4 48 (by decide +kernel) rfl
set_option maxRecDepth 100000 in
theorem g_769 : Cond.code (⟨"java/util/ArrayList", "grow", "(I)[Ljava/lang/Object;"⟩ : MethodName) prog_26_method_6_code 4 (Option.some (FieldType.array (FieldType.object "java/lang/Object"))) ∈ gws := gmc4 49 rfl rfl
theorem g_770 : Cond.methodLink "java/util/ArrayList" 73 (⟨"jdk/internal/util/ArraysSupport", "newLength", "(III)I"⟩ : MethodName) ∈ gws := gmc4 50 (by decide +kernel) rfl
theorem g_771 : Cond.methodLink "java/util/ArrayList" 66 (⟨"java/util/Arrays", "copyOf", "([Ljava/lang/Object;I)[Ljava/lang/Object;"⟩ : MethodName) ∈ gws := gmc4 51 (by decide +kernel) rfl
theorem g_772 : Cond.static (⟨"java/util/Arrays", "copyOf", "([Ljava/lang/Object;I)[Ljava/lang/Object;"⟩ : MethodName) ∈ gws := gmc4 52 (by decide +kernel) rfl
set_option maxRecDepth 100000 in
theorem g_773 : Cond.code (⟨"java/util/Arrays", "copyOf", "([Ljava/lang/Object;I)[Ljava/lang/Object;"⟩ : MethodName) prog_28_method_119_code 2 (Option.some (FieldType.array (FieldType.object "java/lang/Object"))) ∈ gws := gmc4 53 rfl rfl
theorem g_797 : Cond.methodLink "java/util/ArrayList" 79 (⟨"java/lang/Math", "max", "(II)I"⟩ : MethodName) ∈ gws := gmc4 77 (by decide +kernel) rfl
theorem g_798 : Cond.classLink "java/util/ArrayList" 7 "java/lang/Object" ∈ gws := gmc4 78 (by decide +kernel) rfl
theorem g_774 : Cond.methodLink "java/util/Arrays" 86 (⟨"java/lang/Object", "getClass", "()Ljava/lang/Class;"⟩ : MethodName) ∈ gws := gmc4 54 (by decide +kernel) rfl
theorem k_n1450 : Cond.declares (⟨"java/lang/Object", "getClass", "()Ljava/lang/Class;"⟩ : MethodName) ∈ nws := nm_t (tc7 (List.mem_of_getElem? (i := 10) (by decide +kernel))) rfl
theorem g_1449 : Cond.selects "[Ljava/lang/Object;" (⟨"java/lang/Object", "getClass", "()Ljava/lang/Class;"⟩ : MethodName) (⟨"java/lang/Object", "getClass", "()Ljava/lang/Class;"⟩ : MethodName) ∈ gws := gmc7 9 (by decide +kernel) rfl
theorem g_775 : Cond.instanceMethod (⟨"java/lang/Object", "getClass", "()Ljava/lang/Class;"⟩ : MethodName) ∈ gws := gmc4 55 (by decide +kernel) rfl
theorem g_790 : Cond.native (⟨"java/lang/Object", "getClass", "()Ljava/lang/Class;"⟩ : MethodName) ∈ gws := gmc4 70 (by decide +kernel) rfl
theorem g_791 : Cond.methodLink "java/util/Arrays" 300 (⟨"java/util/Arrays", "copyOf", "([Ljava/lang/Object;ILjava/lang/Class;)[Ljava/lang/Object;"⟩ : MethodName) ∈ gws := gmc4 71 (by decide +kernel) rfl
theorem g_792 : Cond.static (⟨"java/util/Arrays", "copyOf", "([Ljava/lang/Object;ILjava/lang/Class;)[Ljava/lang/Object;"⟩ : MethodName) ∈ gws := gmc4 72 (by decide +kernel) rfl
set_option maxRecDepth 100000 in
theorem g_793 : Cond.code (⟨"java/util/Arrays", "copyOf", "([Ljava/lang/Object;ILjava/lang/Class;)[Ljava/lang/Object;"⟩ : MethodName) prog_28_method_120_code 4 (Option.some (FieldType.array (FieldType.object "java/lang/Object"))) ∈ gws := gmc4 73 rfl rfl
theorem g_794 : Cond.classLink "java/util/Arrays" 110 "[Ljava/lang/Object;" ∈ gws := gmc4 74 (by decide +kernel) rfl
theorem g_796 : Cond.classLink "java/util/Arrays" 2 "java/lang/Object" ∈ gws := gmc4 76 (by decide +kernel) rfl
theorem g_803 : Cond.methodLink "java/util/ArrayList" 144 (⟨"java/util/ArrayList", "fastRemove", "([Ljava/lang/Object;I)V"⟩ : MethodName) ∈ gws := gmc4 83 (by decide +kernel) rfl
theorem g_805 : Cond.instanceMethod (⟨"java/util/ArrayList", "fastRemove", "([Ljava/lang/Object;I)V"⟩ : MethodName) ∈ gws := gmc4 85 (by decide +kernel) rfl
set_option maxRecDepth 100000 in
theorem g_806 : Cond.code (⟨"java/util/ArrayList", "fastRemove", "([Ljava/lang/Object;I)V"⟩ : MethodName) prog_26_method_39_code 4 (Option.none : Option FieldType) ∈ gws := gmc4 86 rfl rfl
theorem g_807 : Cond.methodLink "java/util/ArrayList" 112 (⟨"java/lang/System", "arraycopy", "(Ljava/lang/Object;ILjava/lang/Object;II)V"⟩ : MethodName) ∈ gws := gmc4 87 (by decide +kernel) rfl
theorem g_816 : Cond.methodLink "ConeForms" 193 (⟨"ConeForms", "node", "(I)LConeForms$Node;"⟩ : MethodName) ∈ gws := gmc4 96 (by decide +kernel) rfl
theorem g_818 : Cond.instanceMethod (⟨"ConeForms", "node", "(I)LConeForms$Node;"⟩ : MethodName) ∈ gws := gmc4 98 (by decide +kernel) rfl
set_option maxRecDepth 100000 in
theorem g_819 : Cond.code (⟨"ConeForms", "node", "(I)LConeForms$Node;"⟩ : MethodName) prog_1_method_11_code 2 (Option.some (FieldType.object "ConeForms$Node")) ∈ gws := gmc4 99 rfl rfl
theorem g_521 : Cond.fieldLink "ConeForms" 197 "ConeForms$Node" "curvature" "I" ∈ gws := gmc3 41 (by decide +kernel) rfl
theorem g_523 : Cond.fieldLink "ConeForms" 200 "ConeForms$Node" "blame" "I" ∈ gws := gmc3 43 (by decide +kernel) rfl
theorem g_525 : Cond.fieldLink "ConeForms" 203 "ConeForms$Node" "column" "I" ∈ gws := gmc3 45 (by decide +kernel) rfl
theorem g_832 : Cond.constant "ConeForms" 206 (1000000 : Int32) ∈ gws := gmc4 112 (by decide +kernel) rfl
theorem g_833 : Cond.methodLink "ConeForms" 207 (⟨"ConeForms", "within", "(II)Z"⟩ : MethodName) ∈ gws := gmc4 113 (by decide +kernel) rfl
theorem g_834 : Cond.static (⟨"ConeForms", "within", "(II)Z"⟩ : MethodName) ∈ gws := gmc4 114 (by decide +kernel) rfl
set_option maxRecDepth 100000 in
theorem g_835 : Cond.code (⟨"ConeForms", "within", "(II)Z"⟩ : MethodName) prog_1_method_16_code 2 (Option.some FieldType.boolean) ∈ gws := gmc4 115 rfl rfl
theorem g_565 : Cond.fieldLink "ConeForms" 211 "ConeForms$Bend" "own" "I" ∈ gws := gmc3 85 (by decide +kernel) rfl
theorem g_836 : Cond.fieldLink "ConeForms" 214 "ConeForms$Kind" "VARIABLE" "LConeForms$Kind;" ∈ gws := gmc4 116 (by decide +kernel) rfl
theorem g_837 : Cond.fieldLink "ConeForms" 217 "ConeForms$Kind" "PARAMETER" "LConeForms$Kind;" ∈ gws := gmc4 117 (by decide +kernel) rfl
theorem g_166 : Cond.fieldLink "ConeForms" 220 "ConeForms" "stands" "Z" ∈ gws := gmc1 166 (by decide +kernel) rfl
theorem g_838 : Cond.methodLink "ConeForms" 223 (⟨"ConeForms", "fill", "()V"⟩ : MethodName) ∈ gws := gmc4 118 (by decide +kernel) rfl
theorem g_840 : Cond.instanceMethod (⟨"ConeForms", "fill", "()V"⟩ : MethodName) ∈ gws := gmc4 120 (by decide +kernel) rfl
set_option maxRecDepth 100000 in
theorem g_841 : Cond.code (⟨"ConeForms", "fill", "()V"⟩ : MethodName) prog_1_method_31_code 3 (Option.none : Option FieldType) ∈ gws := gmc4 121 rfl rfl
theorem g_526 : Cond.fieldLink "ConeForms" 240 "ConeForms$Node" "used" "Z" ∈ gws := gmc3 46 (by decide +kernel) rfl
theorem g_842 : Cond.methodLink "ConeForms" 300 (⟨"ConeForms$Node", "expansion", "(LConeForms$Table;)V"⟩ : MethodName) ∈ gws := gmc4 122 (by decide +kernel) rfl
theorem g_843 : Cond.instanceMethod (⟨"ConeForms$Node", "expansion", "(LConeForms$Table;)V"⟩ : MethodName) ∈ gws := gmc4 123 (by decide +kernel) rfl
theorem g_846 : Cond.selects "ConeForms$Leaf" (⟨"ConeForms$Node", "expansion", "(LConeForms$Table;)V"⟩ : MethodName) (⟨"ConeForms$Node", "expansion", "(LConeForms$Table;)V"⟩ : MethodName) ∈ gws := gmc4 126 (by decide +kernel) rfl
set_option maxRecDepth 100000 in
theorem g_849 : Cond.code (⟨"ConeForms$Node", "expansion", "(LConeForms$Table;)V"⟩ : MethodName) prog_6_method_12_code 2 (Option.none : Option FieldType) ∈ gws := gmc4 129 rfl rfl
theorem g_845 : Cond.selects "ConeForms$Bend" (⟨"ConeForms$Node", "expansion", "(LConeForms$Table;)V"⟩ : MethodName) (⟨"ConeForms$Node", "expansion", "(LConeForms$Table;)V"⟩ : MethodName) ∈ gws := gmc4 125 (by decide +kernel) rfl
theorem g_848 : Cond.selects "ConeForms$Product" (⟨"ConeForms$Node", "expansion", "(LConeForms$Table;)V"⟩ : MethodName) (⟨"ConeForms$Node", "expansion", "(LConeForms$Table;)V"⟩ : MethodName) ∈ gws := gmc4 128 (by decide +kernel) rfl
theorem g_847 : Cond.selects "ConeForms$Linear" (⟨"ConeForms$Node", "expansion", "(LConeForms$Table;)V"⟩ : MethodName) (⟨"ConeForms$Node", "expansion", "(LConeForms$Table;)V"⟩ : MethodName) ∈ gws := gmc4 127 (by decide +kernel) rfl
theorem g_880 : Cond.methodLink "ConeForms" 292 (⟨"ConeForms$Table", "clear", "(I)V"⟩ : MethodName) ∈ gws := gmc4 160 (by decide +kernel) rfl
theorem g_851 : Cond.instanceMethod (⟨"ConeForms$Table", "clear", "(I)V"⟩ : MethodName) ∈ gws := gmc4 131 (by decide +kernel) rfl
theorem g_852 : Cond.selects "ConeForms$Table" (⟨"ConeForms$Table", "clear", "(I)V"⟩ : MethodName) (⟨"ConeForms$Table", "clear", "(I)V"⟩ : MethodName) ∈ gws := gmc4 132 (by decide +kernel) rfl
set_option maxRecDepth 100000 in
theorem g_853 : Cond.code (⟨"ConeForms$Table", "clear", "(I)V"⟩ : MethodName) prog_10_method_2_code 3 (Option.none : Option FieldType) ∈ gws := gmc4 133 rfl rfl
theorem g_162 : Cond.fieldLink "ConeForms" 243 "ConeForms" "goal" "LConeForms$Node;" ∈ gws := gmc1 162 (by decide +kernel) rfl
theorem g_163 : Cond.fieldLink "ConeForms" 246 "ConeForms" "toLeast" "Z" ∈ gws := gmc1 163 (by decide +kernel) rfl
theorem g_881 : Cond.methodLink "ConeForms" 297 (⟨"ConeForms$Table", "add", "(ILConeForms$Table;II)V"⟩ : MethodName) ∈ gws := gmc4 161 (by decide +kernel) rfl
theorem g_873 : Cond.instanceMethod (⟨"ConeForms$Table", "add", "(ILConeForms$Table;II)V"⟩ : MethodName) ∈ gws := gmc4 153 (by decide +kernel) rfl
theorem g_874 : Cond.selects "ConeForms$Table" (⟨"ConeForms$Table", "add", "(ILConeForms$Table;II)V"⟩ : MethodName) (⟨"ConeForms$Table", "add", "(ILConeForms$Table;II)V"⟩ : MethodName) ∈ gws := gmc4 154 (by decide +kernel) rfl
set_option maxRecDepth 100000 in
theorem g_875 : Cond.code (⟨"ConeForms$Table", "add", "(ILConeForms$Table;II)V"⟩ : MethodName) prog_10_method_5_code 6 (Option.none : Option FieldType) ∈ gws := gmc4 155 rfl rfl
theorem g_172 : Cond.fieldLink "ConeForms" 289 "ConeForms" "allRows" "I" ∈ gws := gmc1 172 (by decide +kernel) rfl
theorem g_164 : Cond.fieldLink "ConeForms" 260 "ConeForms" "head" "LConeForms$Requirement;" ∈ gws := gmc1 164 (by decide +kernel) rfl
theorem g_927 : Cond.fieldLink "ConeForms" 271 "ConeForms$Requirement" "same" "Z" ∈ gws := gmc4 207 (by decide +kernel) rfl
theorem g_929 : Cond.fieldLink "ConeForms" 270 "ConeForms$Requirement" "a" "LConeForms$Node;" ∈ gws := gmc4 209 (by decide +kernel) rfl
theorem g_931 : Cond.fieldLink "ConeForms" 274 "ConeForms$Requirement" "b" "LConeForms$Node;" ∈ gws := gmc4 211 (by decide +kernel) rfl
theorem g_882 : Cond.methodLink "ConeForms" 304 (⟨"ConeForms", "row", "(LConeForms$Node;ILConeForms$Node;ILConeForms$Node;II)V"⟩ : MethodName) ∈ gws := gmc4 162 (by decide +kernel) rfl
theorem g_884 : Cond.instanceMethod (⟨"ConeForms", "row", "(LConeForms$Node;ILConeForms$Node;ILConeForms$Node;II)V"⟩ : MethodName) ∈ gws := gmc4 164 (by decide +kernel) rfl
set_option maxRecDepth 100000 in
theorem g_885 : Cond.code (⟨"ConeForms", "row", "(LConeForms$Node;ILConeForms$Node;ILConeForms$Node;II)V"⟩ : MethodName) prog_1_method_30_code 8 (Option.none : Option FieldType) ∈ gws := gmc4 165 rfl rfl
theorem g_932 : Cond.fieldLink "ConeForms" 264 "ConeForms$Requirement" "next" "LConeForms$Requirement;" ∈ gws := gmc4 212 (by decide +kernel) rfl
theorem g_170 : Cond.fieldLink "ConeForms" 308 "ConeForms" "zeroRows" "I" ∈ gws := gmc1 170 (by decide +kernel) rfl
theorem g_886 : Cond.methodLink "ConeForms" 311 (⟨"ConeForms", "plain", "(LConeForms$Node;)V"⟩ : MethodName) ∈ gws := gmc4 166 (by decide +kernel) rfl
theorem g_888 : Cond.instanceMethod (⟨"ConeForms", "plain", "(LConeForms$Node;)V"⟩ : MethodName) ∈ gws := gmc4 168 (by decide +kernel) rfl
set_option maxRecDepth 100000 in
theorem g_889 : Cond.code (⟨"ConeForms", "plain", "(LConeForms$Node;)V"⟩ : MethodName) prog_1_method_32_code 3 (Option.none : Option FieldType) ∈ gws := gmc4 169 rfl rfl
theorem g_171 : Cond.fieldLink "ConeForms" 314 "ConeForms" "plainRows" "I" ∈ gws := gmc1 171 (by decide +kernel) rfl
theorem g_892 : Cond.fieldLink "ConeForms" 317 "ConeForms$Kind" "SQUARE" "LConeForms$Kind;" ∈ gws := gmc4 172 (by decide +kernel) rfl
theorem g_502 : Cond.fieldLink "ConeForms$Node" 65 "ConeForms$Node" "index" "I" ∈ gws := gmc3 22 (by decide +kernel) rfl
theorem g_850 : Cond.methodLink "ConeForms$Node" 68 (⟨"ConeForms$Table", "clear", "(I)V"⟩ : MethodName) ∈ gws := gmc4 130 (by decide +kernel) rfl
theorem k_n149 : Cond.fieldLinkNest "ConeForms$Node" 74 "ConeForms$Table" "constants" "[I" "ConeForms" ∈ nws := nm_t (tc1 (List.mem_of_getElem? (i := 149) (by decide +kernel))) rfl
theorem g_509 : Cond.fieldLink "ConeForms$Node" 32 "ConeForms$Node" "value" "I" ∈ gws := gmc3 29 (by decide +kernel) rfl
theorem g_854 : Cond.methodLink "ConeForms$Node" 78 (⟨"ConeForms$Node", "expand", "(LConeForms$Table;)V"⟩ : MethodName) ∈ gws := gmc4 134 (by decide +kernel) rfl
theorem k_n855 : Cond.declares (⟨"ConeForms$Node", "expand", "(LConeForms$Table;)V"⟩ : MethodName) ∈ nws := nm_t (tc4 (List.mem_of_getElem? (i := 135) (by decide +kernel))) rfl
theorem g_856 : Cond.sameMethod "ConeForms$Node" "ConeForms$Node" "expand" "(LConeForms$Table;)V" ∈ gws := gmc4 136 (by decide +kernel) rfl
theorem g_865 : Cond.instanceMethod (⟨"ConeForms$Leaf", "expand", "(LConeForms$Table;)V"⟩ : MethodName) ∈ gws := gmc4 145 (by decide +kernel) rfl
theorem g_864 : Cond.selects "ConeForms$Leaf" (⟨"ConeForms$Node", "expand", "(LConeForms$Table;)V"⟩ : MethodName) (⟨"ConeForms$Leaf", "expand", "(LConeForms$Table;)V"⟩ : MethodName) ∈ gws := gmc4 144 (by decide +kernel) rfl
set_option maxRecDepth 100000 in
theorem g_866 : Cond.code (⟨"ConeForms$Leaf", "expand", "(LConeForms$Table;)V"⟩ : MethodName) prog_4_method_6_code 2 (Option.none : Option FieldType) ∈ gws := gmc4 146 rfl rfl
theorem g_858 : Cond.instanceMethod (⟨"ConeForms$Bend", "expand", "(LConeForms$Table;)V"⟩ : MethodName) ∈ gws := gmc4 138 (by decide +kernel) rfl
theorem g_857 : Cond.selects "ConeForms$Bend" (⟨"ConeForms$Node", "expand", "(LConeForms$Table;)V"⟩ : MethodName) (⟨"ConeForms$Bend", "expand", "(LConeForms$Table;)V"⟩ : MethodName) ∈ gws := gmc4 137 (by decide +kernel) rfl
set_option maxRecDepth 100000 in
theorem g_859 : Cond.code (⟨"ConeForms$Bend", "expand", "(LConeForms$Table;)V"⟩ : MethodName) prog_2_method_6_code 2 (Option.none : Option FieldType) ∈ gws := gmc4 139 rfl rfl
theorem g_877 : Cond.instanceMethod (⟨"ConeForms$Product", "expand", "(LConeForms$Table;)V"⟩ : MethodName) ∈ gws := gmc4 157 (by decide +kernel) rfl
theorem g_876 : Cond.selects "ConeForms$Product" (⟨"ConeForms$Node", "expand", "(LConeForms$Table;)V"⟩ : MethodName) (⟨"ConeForms$Product", "expand", "(LConeForms$Table;)V"⟩ : MethodName) ∈ gws := gmc4 156 (by decide +kernel) rfl
set_option maxRecDepth 100000 in
theorem g_878 : Cond.code (⟨"ConeForms$Product", "expand", "(LConeForms$Table;)V"⟩ : MethodName) prog_7_method_7_code 2 (Option.none : Option FieldType) ∈ gws := gmc4 158 rfl rfl
theorem g_869 : Cond.instanceMethod (⟨"ConeForms$Linear", "expand", "(LConeForms$Table;)V"⟩ : MethodName) ∈ gws := gmc4 149 (by decide +kernel) rfl
theorem g_868 : Cond.selects "ConeForms$Linear" (⟨"ConeForms$Node", "expand", "(LConeForms$Table;)V"⟩ : MethodName) (⟨"ConeForms$Linear", "expand", "(LConeForms$Table;)V"⟩ : MethodName) ∈ gws := gmc4 148 (by decide +kernel) rfl
set_option maxRecDepth 100000 in
theorem g_870 : Cond.code (⟨"ConeForms$Linear", "expand", "(LConeForms$Table;)V"⟩ : MethodName) prog_5_method_6_code 2 (Option.none : Option FieldType) ∈ gws := gmc4 150 rfl rfl
theorem g_490 : Cond.fieldLink "ConeForms$Bend" 63 "ConeForms$Bend" "index" "I" ∈ gws := gmc3 10 (by decide +kernel) rfl
theorem g_491 : Cond.sameField "ConeForms$Bend" "ConeForms$Node" "index" "I" ∈ gws := gmc3 11 (by decide +kernel) rfl
theorem g_860 : Cond.methodLink "ConeForms$Bend" 66 (⟨"ConeForms$Table", "put", "(III)V"⟩ : MethodName) ∈ gws := gmc4 140 (by decide +kernel) rfl
theorem g_861 : Cond.instanceMethod (⟨"ConeForms$Table", "put", "(III)V"⟩ : MethodName) ∈ gws := gmc4 141 (by decide +kernel) rfl
theorem g_862 : Cond.selects "ConeForms$Table" (⟨"ConeForms$Table", "put", "(III)V"⟩ : MethodName) (⟨"ConeForms$Table", "put", "(III)V"⟩ : MethodName) ∈ gws := gmc4 142 (by decide +kernel) rfl
set_option maxRecDepth 100000 in
theorem g_863 : Cond.code (⟨"ConeForms$Table", "put", "(III)V"⟩ : MethodName) prog_10_method_3_code 4 (Option.none : Option FieldType) ∈ gws := gmc4 143 rfl rfl
theorem g_492 : Cond.fieldLink "ConeForms$Leaf" 40 "ConeForms$Leaf" "index" "I" ∈ gws := gmc3 12 (by decide +kernel) rfl
theorem g_493 : Cond.sameField "ConeForms$Leaf" "ConeForms$Node" "index" "I" ∈ gws := gmc3 13 (by decide +kernel) rfl
theorem g_867 : Cond.methodLink "ConeForms$Leaf" 43 (⟨"ConeForms$Table", "put", "(III)V"⟩ : MethodName) ∈ gws := gmc4 147 (by decide +kernel) rfl
theorem g_494 : Cond.fieldLink "ConeForms$Linear" 47 "ConeForms$Linear" "index" "I" ∈ gws := gmc3 14 (by decide +kernel) rfl
theorem g_495 : Cond.sameField "ConeForms$Linear" "ConeForms$Node" "index" "I" ∈ gws := gmc3 15 (by decide +kernel) rfl
theorem g_496 : Cond.fieldLink "ConeForms$Linear" 50 "ConeForms$Node" "index" "I" ∈ gws := gmc3 16 (by decide +kernel) rfl
theorem g_871 : Cond.methodLink "ConeForms$Linear" 51 (⟨"ConeForms$Linear", "slope", "(I)I"⟩ : MethodName) ∈ gws := gmc4 151 (by decide +kernel) rfl
theorem g_1442 : Cond.selects "ConeForms$Linear" (⟨"ConeForms$Linear", "slope", "(I)I"⟩ : MethodName) (⟨"ConeForms$Linear", "slope", "(I)I"⟩ : MethodName) ∈ gws := gmc7 2 (by decide +kernel) rfl
theorem g_872 : Cond.methodLink "ConeForms$Linear" 54 (⟨"ConeForms$Table", "add", "(ILConeForms$Table;II)V"⟩ : MethodName) ∈ gws := gmc4 152 (by decide +kernel) rfl
theorem g_498 : Cond.fieldLink "ConeForms$Product" 44 "ConeForms$Product" "index" "I" ∈ gws := gmc3 18 (by decide +kernel) rfl
theorem g_499 : Cond.sameField "ConeForms$Product" "ConeForms$Node" "index" "I" ∈ gws := gmc3 19 (by decide +kernel) rfl
theorem g_500 : Cond.fieldLink "ConeForms$Product" 47 "ConeForms$Node" "index" "I" ∈ gws := gmc3 20 (by decide +kernel) rfl
theorem g_879 : Cond.methodLink "ConeForms$Product" 48 (⟨"ConeForms$Table", "add", "(ILConeForms$Table;II)V"⟩ : MethodName) ∈ gws := gmc4 159 (by decide +kernel) rfl
theorem k_n150 : Cond.fieldLinkNest "ConeForms" 294 "ConeForms$Table" "constants" "[I" "ConeForms" ∈ nws := nm_t (tc1 (List.mem_of_getElem? (i := 150) (by decide +kernel))) rfl
theorem g_890 : Cond.methodLink "ConeForms" 320 (⟨"ConeForms$Kind", "ordinal", "()I"⟩ : MethodName) ∈ gws := gmc4 170 (by decide +kernel) rfl
theorem g_891 : Cond.fieldLink "ConeForms" 323 "ConeForms$Kind" "MAX" "LConeForms$Kind;" ∈ gws := gmc4 171 (by decide +kernel) rfl
theorem g_897 : Cond.methodLink "ConeForms" 233 (⟨"ConeForms", "culpritOf", "(LConeForms$Node;)LConeForms$Node;"⟩ : MethodName) ∈ gws := gmc4 177 (by decide +kernel) rfl
theorem g_899 : Cond.instanceMethod (⟨"ConeForms", "culpritOf", "(LConeForms$Node;)LConeForms$Node;"⟩ : MethodName) ∈ gws := gmc4 179 (by decide +kernel) rfl
set_option maxRecDepth 100000 in
theorem g_900 : Cond.code (⟨"ConeForms", "culpritOf", "(LConeForms$Node;)LConeForms$Node;"⟩ : MethodName) prog_1_method_19_code 3 (Option.some (FieldType.object "ConeForms$Node")) ∈ gws := gmc4 180 rfl rfl
theorem g_527 : Cond.fieldLink "ConeForms" 226 "ConeForms$Node" "seen" "Z" ∈ gws := gmc3 47 (by decide +kernel) rfl
theorem g_901 : Cond.methodLink "ConeForms" 229 (⟨"ConeForms", "offender", "(LConeForms$Node;I)LConeForms$Node;"⟩ : MethodName) ∈ gws := gmc4 181 (by decide +kernel) rfl
theorem g_902 : Cond.static (⟨"ConeForms", "offender", "(LConeForms$Node;I)LConeForms$Node;"⟩ : MethodName) ∈ gws := gmc4 182 (by decide +kernel) rfl
set_option maxRecDepth 100000 in
theorem g_903 : Cond.code (⟨"ConeForms", "offender", "(LConeForms$Node;I)LConeForms$Node;"⟩ : MethodName) prog_1_method_18_code 3 (Option.some (FieldType.object "ConeForms$Node")) ∈ gws := gmc4 183 rfl rfl
theorem g_908 : Cond.methodLink "ConeForms" 249 (⟨"ConeForms", "drop", "()V"⟩ : MethodName) ∈ gws := gmc4 188 (by decide +kernel) rfl
theorem g_910 : Cond.instanceMethod (⟨"ConeForms", "drop", "()V"⟩ : MethodName) ∈ gws := gmc4 190 (by decide +kernel) rfl
set_option maxRecDepth 100000 in
theorem g_911 : Cond.code (⟨"ConeForms", "drop", "()V"⟩ : MethodName) prog_1_method_21_code 3 (Option.none : Option FieldType) ∈ gws := gmc4 191 rfl rfl
theorem g_912 : Cond.methodLink "ConeForms" 237 (⟨"java/util/ArrayList", "clear", "()V"⟩ : MethodName) ∈ gws := gmc4 192 (by decide +kernel) rfl
theorem g_913 : Cond.instanceMethod (⟨"java/util/ArrayList", "clear", "()V"⟩ : MethodName) ∈ gws := gmc4 193 (by decide +kernel) rfl
theorem g_914 : Cond.selects "java/util/ArrayList" (⟨"java/util/ArrayList", "clear", "()V"⟩ : MethodName) (⟨"java/util/ArrayList", "clear", "()V"⟩ : MethodName) ∈ gws := gmc4 194 (by decide +kernel) rfl
set_option maxRecDepth 100000 in
theorem g_915 : Cond.code (⟨"java/util/ArrayList", "clear", "()V"⟩ : MethodName) prog_26_method_40_code 4 (Option.none : Option FieldType) ∈ gws := gmc4 195 rfl rfl
theorem g_165 : Cond.fieldLink "ConeForms" 252 "ConeForms" "requirements" "I" ∈ gws := gmc1 165 (by decide +kernel) rfl
theorem g_920 : Cond.classLink "ConeForms" 255 "ConeForms$Requirement" ∈ gws := gmc4 200 (by decide +kernel) rfl
theorem g_921 : Cond.instantiable "ConeForms$Requirement" 4 ∈ gws := gmc4 201 (by decide +kernel) rfl
theorem g_26 : Cond.initialized "ConeForms$Requirement" ∈ gws := gmc1 26 (by decide +kernel) rfl
theorem g_922 : Cond.methodLink "ConeForms" 257 (⟨"ConeForms$Requirement", "<init>", "(ZLConeForms$Node;LConeForms$Node;)V"⟩ : MethodName) ∈ gws := gmc4 202 (by decide +kernel) rfl
theorem g_923 : Cond.instanceMethod (⟨"ConeForms$Requirement", "<init>", "(ZLConeForms$Node;LConeForms$Node;)V"⟩ : MethodName) ∈ gws := gmc4 203 (by decide +kernel) rfl
set_option maxRecDepth 100000 in
theorem g_924 : Cond.code (⟨"ConeForms$Requirement", "<init>", "(ZLConeForms$Node;LConeForms$Node;)V"⟩ : MethodName) prog_8_method_1_code 4 (Option.none : Option FieldType) ∈ gws := gmc4 204 rfl rfl
theorem g_925 : Cond.methodLink "ConeForms$Requirement" 1 (⟨"java/lang/Object", "<init>", "()V"⟩ : MethodName) ∈ gws := gmc4 205 (by decide +kernel) rfl
theorem g_926 : Cond.fieldLink "ConeForms$Requirement" 7 "ConeForms$Requirement" "same" "Z" ∈ gws := gmc4 206 (by decide +kernel) rfl
theorem g_928 : Cond.fieldLink "ConeForms$Requirement" 13 "ConeForms$Requirement" "a" "LConeForms$Node;" ∈ gws := gmc4 208 (by decide +kernel) rfl
theorem g_930 : Cond.fieldLink "ConeForms$Requirement" 17 "ConeForms$Requirement" "b" "LConeForms$Node;" ∈ gws := gmc4 210 (by decide +kernel) rfl
theorem g_950 : Cond.methodLink "ConeForms" 275 (⟨"ConeForms", "wrongPart", "()LConeForms$Node;"⟩ : MethodName) ∈ gws := gmc4 230 (by decide +kernel) rfl
theorem g_952 : Cond.instanceMethod (⟨"ConeForms", "wrongPart", "()LConeForms$Node;"⟩ : MethodName) ∈ gws := gmc4 232 (by decide +kernel) rfl
set_option maxRecDepth 100000 in
theorem g_953 : Cond.code (⟨"ConeForms", "wrongPart", "()LConeForms$Node;"⟩ : MethodName) prog_1_method_26_code 3 (Option.some (FieldType.object "ConeForms$Node")) ∈ gws := gmc4 233 rfl rfl
theorem g_958 : Cond.methodLink "ConeForms" 279 (⟨"ConeForms", "use", "()V"⟩ : MethodName) ∈ gws := gmc4 238 (by decide +kernel) rfl
theorem g_960 : Cond.instanceMethod (⟨"ConeForms", "use", "()V"⟩ : MethodName) ∈ gws := gmc5 0 (by decide +kernel) rfl
set_option maxRecDepth 100000 in
theorem g_961 : Cond.code (⟨"ConeForms", "use", "()V"⟩ : MethodName) prog_1_method_29_code 4 (Option.none : Option FieldType) ∈ gws := gmc5 1 rfl rfl
theorem g_963 : Cond.methodLink "ConeForms" 282 (⟨"ConeForms", "number", "(LConeForms$Node;)V"⟩ : MethodName) ∈ gws := gmc5 3 (by decide +kernel) rfl
theorem g_965 : Cond.instanceMethod (⟨"ConeForms", "number", "(LConeForms$Node;)V"⟩ : MethodName) ∈ gws := gmc5 5 (by decide +kernel) rfl
set_option maxRecDepth 100000 in
theorem g_966 : Cond.code (⟨"ConeForms", "number", "(LConeForms$Node;)V"⟩ : MethodName) prog_1_method_28_code 2 (Option.none : Option FieldType) ∈ gws := gmc5 6 rfl rfl
theorem g_954 : Cond.methodLink "ConeForms" 267 (⟨"ConeForms", "wrong", "(LConeForms$Node;I)LConeForms$Node;"⟩ : MethodName) ∈ gws := gmc4 234 (by decide +kernel) rfl
theorem g_956 : Cond.instanceMethod (⟨"ConeForms", "wrong", "(LConeForms$Node;I)LConeForms$Node;"⟩ : MethodName) ∈ gws := gmc4 236 (by decide +kernel) rfl
set_option maxRecDepth 100000 in
theorem g_957 : Cond.code (⟨"ConeForms", "wrong", "(LConeForms$Node;I)LConeForms$Node;"⟩ : MethodName) prog_1_method_25_code 3 (Option.some (FieldType.object "ConeForms$Node")) ∈ gws := gmc4 237 rfl rfl
theorem g_962 : Cond.methodLink "ConeForms" 286 (⟨"ConeForms$Node", "argument", "(I)LConeForms$Node;"⟩ : MethodName) ∈ gws := gmc5 2 (by decide +kernel) rfl
theorem g_975 : Cond.methodLink "ConeForms" 326 (⟨"ConeForms$Table", "get", "(II)I"⟩ : MethodName) ∈ gws := gmc5 15 (by decide +kernel) rfl
theorem g_976 : Cond.instanceMethod (⟨"ConeForms$Table", "get", "(II)I"⟩ : MethodName) ∈ gws := gmc5 16 (by decide +kernel) rfl
theorem g_977 : Cond.selects "ConeForms$Table" (⟨"ConeForms$Table", "get", "(II)I"⟩ : MethodName) (⟨"ConeForms$Table", "get", "(II)I"⟩ : MethodName) ∈ gws := gmc5 17 (by decide +kernel) rfl
set_option maxRecDepth 100000 in
theorem g_978 : Cond.code (⟨"ConeForms$Table", "get", "(II)I"⟩ : MethodName) prog_10_method_4_code 3 (Option.some FieldType.int) ∈ gws := gmc5 18 rfl rfl
theorem g_987 : Cond.methodLink "ConeForms" 329 (⟨"java/util/ArrayList", "iterator", "()Ljava/util/Iterator;"⟩ : MethodName) ∈ gws := gmc5 27 (by decide +kernel) rfl
theorem g_988 : Cond.instanceMethod (⟨"java/util/ArrayList", "iterator", "()Ljava/util/Iterator;"⟩ : MethodName) ∈ gws := gmc5 28 (by decide +kernel) rfl
theorem g_989 : Cond.selects "java/util/ArrayList" (⟨"java/util/ArrayList", "iterator", "()Ljava/util/Iterator;"⟩ : MethodName) (⟨"java/util/ArrayList", "iterator", "()Ljava/util/Iterator;"⟩ : MethodName) ∈ gws := gmc5 29 (by decide +kernel) rfl
set_option maxRecDepth 100000 in
theorem g_990 : Cond.code (⟨"java/util/ArrayList", "iterator", "()Ljava/util/Iterator;"⟩ : MethodName) prog_26_method_55_code 1 (Option.some (FieldType.object "java/util/Iterator")) ∈ gws := gmc5 30 rfl rfl
theorem g_1011 : Cond.methodLink "ConeForms" 333 (⟨"java/util/Iterator", "hasNext", "()Z"⟩ : MethodName) ∈ gws := gmc5 51 (by decide +kernel) rfl
theorem g_1017 : Cond.instanceMethod (⟨"java/util/ArrayList$Itr", "hasNext", "()Z"⟩ : MethodName) ∈ gws := gmc5 57 (by decide +kernel) rfl
theorem g_1015 : Cond.selects "java/util/ArrayList$Itr" (⟨"java/util/Iterator", "hasNext", "()Z"⟩ : MethodName) (⟨"java/util/ArrayList$Itr", "hasNext", "()Z"⟩ : MethodName) ∈ gws := gmc5 55 (by decide +kernel) rfl
theorem g_27 : Cond.initialized "java/util/ArrayList$Itr" ∈ gws := gmc1 27 (by decide +kernel) rfl
set_option maxRecDepth 100000 in
theorem g_1019 : Cond.code (⟨"java/util/ArrayList$Itr", "hasNext", "()Z"⟩ : MethodName) prog_27_method_2_code 1 (Option.some FieldType.boolean) ∈ gws := gmc5 59 rfl rfl
theorem k_n1013 : Cond.declares (⟨"java/util/Iterator", "hasNext", "()Z"⟩ : MethodName) ∈ nws := nm_t (tc5 (List.mem_of_getElem? (i := 53) (by decide +kernel))) rfl
theorem k_n1012 : Cond.interfaceMethod "java/util/Iterator" "java/util/Iterator" "hasNext" "()Z" ∈ nws := nm_t (tc5 (List.mem_of_getElem? (i := 52) (by decide +kernel))) rfl
theorem k_n1018 : Cond.publicMethod (⟨"java/util/ArrayList$Itr", "hasNext", "()Z"⟩ : MethodName) ∈ nws := nm_t (tc5 (List.mem_of_getElem? (i := 58) (by decide +kernel))) rfl
theorem k_n1016 : Cond.unhidden "java/util/ArrayList$Itr" "hasNext" "()Z" ∈ nws := nm_t (tc5 (List.mem_of_getElem? (i := 56) (by decide +kernel))) rfl
theorem k_n1014 : Cond.castable "java/util/ArrayList$Itr" "java/util/Iterator" ∈ nws := nm_t (tc5 (List.mem_of_getElem? (i := 54) (by decide +kernel))) rfl
theorem g_1021 : Cond.methodLink "ConeForms" 338 (⟨"java/util/Iterator", "next", "()Ljava/lang/Object;"⟩ : MethodName) ∈ gws := gmc5 61 (by decide +kernel) rfl
theorem g_1026 : Cond.instanceMethod (⟨"java/util/ArrayList$Itr", "next", "()Ljava/lang/Object;"⟩ : MethodName) ∈ gws := gmc5 66 (by decide +kernel) rfl
theorem g_1024 : Cond.selects "java/util/ArrayList$Itr" (⟨"java/util/Iterator", "next", "()Ljava/lang/Object;"⟩ : MethodName) (⟨"java/util/ArrayList$Itr", "next", "()Ljava/lang/Object;"⟩ : MethodName) ∈ gws := gmc5 64 (by decide +kernel) rfl
set_option maxRecDepth 100000 in
theorem g_1028 : Cond.code (⟨"java/util/ArrayList$Itr", "next", "()Ljava/lang/Object;"⟩ : MethodName) prog_27_method_3_code 3 (Option.some (FieldType.object "java/lang/Object")) ∈ gws := gmc5 68 rfl rfl
theorem k_n1023 : Cond.declares (⟨"java/util/Iterator", "next", "()Ljava/lang/Object;"⟩ : MethodName) ∈ nws := nm_t (tc5 (List.mem_of_getElem? (i := 63) (by decide +kernel))) rfl
theorem k_n1022 : Cond.interfaceMethod "java/util/Iterator" "java/util/Iterator" "next" "()Ljava/lang/Object;" ∈ nws := nm_t (tc5 (List.mem_of_getElem? (i := 62) (by decide +kernel))) rfl
theorem k_n1027 : Cond.publicMethod (⟨"java/util/ArrayList$Itr", "next", "()Ljava/lang/Object;"⟩ : MethodName) ∈ nws := nm_t (tc5 (List.mem_of_getElem? (i := 67) (by decide +kernel))) rfl
theorem k_n1025 : Cond.unhidden "java/util/ArrayList$Itr" "next" "()Ljava/lang/Object;" ∈ nws := nm_t (tc5 (List.mem_of_getElem? (i := 65) (by decide +kernel))) rfl
theorem g_991 : Cond.classLink "java/util/ArrayList" 267 "java/util/ArrayList$Itr" ∈ gws := gmc5 31 (by decide +kernel) rfl
theorem g_992 : Cond.instantiable "java/util/ArrayList$Itr" 4 ∈ gws := gmc5 32 (by decide +kernel) rfl
theorem g_993 : Cond.methodLink "java/util/ArrayList" 269 (⟨"java/util/ArrayList$Itr", "<init>", "(Ljava/util/ArrayList;)V"⟩ : MethodName) ∈ gws := gmc5 33 (by decide +kernel) rfl
theorem g_994 : Cond.instanceMethod (⟨"java/util/ArrayList$Itr", "<init>", "(Ljava/util/ArrayList;)V"⟩ : MethodName) ∈ gws := gmc5 34 (by decide +kernel) rfl
set_option maxRecDepth 100000 in
theorem g_995 : Cond.code (⟨"java/util/ArrayList$Itr", "<init>", "(Ljava/util/ArrayList;)V"⟩ : MethodName) prog_27_method_1_code 2 (Option.none : Option FieldType) ∈ gws := gmc5 35 rfl rfl
theorem g_1000 : Cond.fieldLink "java/util/ArrayList$Itr" 1 "java/util/ArrayList$Itr" "this$0" "Ljava/util/ArrayList;" ∈ gws := gmc5 40 (by decide +kernel) rfl
theorem g_996 : Cond.methodLink "java/util/ArrayList$Itr" 7 (⟨"java/lang/Object", "<init>", "()V"⟩ : MethodName) ∈ gws := gmc5 36 (by decide +kernel) rfl
theorem g_998 : Cond.fieldLink "java/util/ArrayList$Itr" 13 "java/util/ArrayList$Itr" "lastRet" "I" ∈ gws := gmc5 38 (by decide +kernel) rfl
theorem g_129 : Cond.fieldLink "java/util/ArrayList$Itr" 17 "java/util/ArrayList" "modCount" "I" ∈ gws := gmc1 129 (by decide +kernel) rfl
theorem g_999 : Cond.fieldLink "java/util/ArrayList$Itr" 22 "java/util/ArrayList$Itr" "expectedModCount" "I" ∈ gws := gmc5 39 (by decide +kernel) rfl
theorem g_997 : Cond.fieldLink "java/util/ArrayList$Itr" 25 "java/util/ArrayList$Itr" "cursor" "I" ∈ gws := gmc5 37 (by decide +kernel) rfl
theorem k_n126 : Cond.fieldLinkNest "java/util/ArrayList$Itr" 28 "java/util/ArrayList" "size" "I" "java/util/ArrayList" ∈ nws := nm_t (tc1 (List.mem_of_getElem? (i := 126) (by decide +kernel))) rfl
theorem g_1029 : Cond.methodLink "java/util/ArrayList$Itr" 31 (⟨"java/util/ArrayList$Itr", "checkForComodification", "()V"⟩ : MethodName) ∈ gws := gmc5 69 (by decide +kernel) rfl
theorem g_1030 : Cond.instanceMethod (⟨"java/util/ArrayList$Itr", "checkForComodification", "()V"⟩ : MethodName) ∈ gws := gmc5 70 (by decide +kernel) rfl
theorem g_1031 : Cond.selects "java/util/ArrayList$Itr" (⟨"java/util/ArrayList$Itr", "checkForComodification", "()V"⟩ : MethodName) (⟨"java/util/ArrayList$Itr", "checkForComodification", "()V"⟩ : MethodName) ∈ gws := gmc5 71 (by decide +kernel) rfl
set_option maxRecDepth 100000 in
theorem g_1032 : Cond.code (⟨"java/util/ArrayList$Itr", "checkForComodification", "()V"⟩ : MethodName) prog_27_method_6_code 1 (Option.none : Option FieldType) ∈ gws := gmc5 72 rfl rfl
theorem g_125 : Cond.fieldLink "java/util/ArrayList$Itr" 37 "java/util/ArrayList" "elementData" "[Ljava/lang/Object;" ∈ gws := gmc1 125 (by decide +kernel) rfl
theorem g_1037 : Cond.methodLink "ConeForms" 345 (⟨"ConeForms", "worth", "(I)J"⟩ : MethodName) ∈ gws := gmc5 77 (by decide +kernel) rfl
theorem g_1039 : Cond.instanceMethod (⟨"ConeForms", "worth", "(I)J"⟩ : MethodName) ∈ gws := gmc5 79 (by decide +kernel) rfl
set_option maxRecDepth 100000 in
theorem g_1040 : Cond.code (⟨"ConeForms", "worth", "(I)J"⟩ : MethodName) prog_1_method_37_code 2 (Option.some FieldType.long) ∈ gws := gmc5 80 rfl rfl
theorem g_1059 : Cond.methodLink "ConeForms" 348 (⟨"java/lang/Math", "abs", "(J)J"⟩ : MethodName) ∈ gws := gmc5 99 (by decide +kernel) rfl
theorem g_1060 : Cond.static (⟨"java/lang/Math", "abs", "(J)J"⟩ : MethodName) ∈ gws := gmc5 100 (by decide +kernel) rfl
set_option maxRecDepth 100000 in
theorem g_1061 : Cond.code (⟨"java/lang/Math", "abs", "(J)J"⟩ : MethodName) prog_18_method_61_code 2 (Option.some FieldType.long) ∈ gws := gmc5 101 rfl rfl
theorem g_1041 : Cond.methodLink "ConeForms" 341 (⟨"ConeForms$Table", "worth", "(ILjava/util/ArrayList;)J"⟩ : MethodName) ∈ gws := gmc5 81 (by decide +kernel) rfl
theorem g_1042 : Cond.instanceMethod (⟨"ConeForms$Table", "worth", "(ILjava/util/ArrayList;)J"⟩ : MethodName) ∈ gws := gmc5 82 (by decide +kernel) rfl
theorem g_1043 : Cond.selects "ConeForms$Table" (⟨"ConeForms$Table", "worth", "(ILjava/util/ArrayList;)J"⟩ : MethodName) (⟨"ConeForms$Table", "worth", "(ILjava/util/ArrayList;)J"⟩ : MethodName) ∈ gws := gmc5 83 (by decide +kernel) rfl
set_option maxRecDepth 100000 in
theorem g_1044 : Cond.code (⟨"ConeForms$Table", "worth", "(ILjava/util/ArrayList;)J"⟩ : MethodName) prog_10_method_6_code 7 (Option.some FieldType.long) ∈ gws := gmc5 84 rfl rfl
theorem g_1045 : Cond.methodLink "ConeForms$Table" 18 (⟨"java/util/ArrayList", "size", "()I"⟩ : MethodName) ∈ gws := gmc5 85 (by decide +kernel) rfl
theorem g_1046 : Cond.methodLink "ConeForms$Table" 24 (⟨"java/util/ArrayList", "get", "(I)Ljava/lang/Object;"⟩ : MethodName) ∈ gws := gmc5 86 (by decide +kernel) rfl
theorem g_1047 : Cond.classLink "ConeForms$Table" 28 "ConeForms$Node" ∈ gws := gmc5 87 (by decide +kernel) rfl
theorem g_497 : Cond.fieldLink "ConeForms$Table" 30 "ConeForms$Node" "index" "I" ∈ gws := gmc3 17 (by decide +kernel) rfl
theorem g_1048 : Cond.methodLink "ConeForms$Table" 34 (⟨"ConeForms$Table", "get", "(II)I"⟩ : MethodName) ∈ gws := gmc5 88 (by decide +kernel) rfl
theorem g_1049 : Cond.methodLink "ConeForms$Table" 37 (⟨"ConeForms$Node", "standing", "()I"⟩ : MethodName) ∈ gws := gmc5 89 (by decide +kernel) rfl
theorem g_1050 : Cond.instanceMethod (⟨"ConeForms$Node", "standing", "()I"⟩ : MethodName) ∈ gws := gmc5 90 (by decide +kernel) rfl
theorem g_1055 : Cond.selects "ConeForms$Leaf" (⟨"ConeForms$Node", "standing", "()I"⟩ : MethodName) (⟨"ConeForms$Node", "standing", "()I"⟩ : MethodName) ∈ gws := gmc5 95 (by decide +kernel) rfl
set_option maxRecDepth 100000 in
theorem g_1058 : Cond.code (⟨"ConeForms$Node", "standing", "()I"⟩ : MethodName) prog_6_method_7_code 1 (Option.some FieldType.int) ∈ gws := gmc5 98 rfl rfl
theorem g_1051 : Cond.sameMethod "ConeForms$Node" "ConeForms$Node" "standing" "()I" ∈ gws := gmc5 91 (by decide +kernel) rfl
theorem g_1053 : Cond.instanceMethod (⟨"ConeForms$Bend", "standing", "()I"⟩ : MethodName) ∈ gws := gmc5 93 (by decide +kernel) rfl
theorem g_1052 : Cond.selects "ConeForms$Bend" (⟨"ConeForms$Node", "standing", "()I"⟩ : MethodName) (⟨"ConeForms$Bend", "standing", "()I"⟩ : MethodName) ∈ gws := gmc5 92 (by decide +kernel) rfl
set_option maxRecDepth 100000 in
theorem g_1054 : Cond.code (⟨"ConeForms$Bend", "standing", "()I"⟩ : MethodName) prog_2_method_7_code 1 (Option.some FieldType.int) ∈ gws := gmc5 94 rfl rfl
theorem g_1057 : Cond.selects "ConeForms$Product" (⟨"ConeForms$Node", "standing", "()I"⟩ : MethodName) (⟨"ConeForms$Node", "standing", "()I"⟩ : MethodName) ∈ gws := gmc5 97 (by decide +kernel) rfl
theorem g_1056 : Cond.selects "ConeForms$Linear" (⟨"ConeForms$Node", "standing", "()I"⟩ : MethodName) (⟨"ConeForms$Node", "standing", "()I"⟩ : MethodName) ∈ gws := gmc5 96 (by decide +kernel) rfl
theorem g_564 : Cond.fieldLink "ConeForms$Bend" 72 "ConeForms$Bend" "own" "I" ∈ gws := gmc3 84 (by decide +kernel) rfl
theorem g_1070 : Cond.methodLink "ConeForms" 354 (⟨"ConeForms$Requirement", "holds", "()Z"⟩ : MethodName) ∈ gws := gmc5 110 (by decide +kernel) rfl
theorem g_1071 : Cond.instanceMethod (⟨"ConeForms$Requirement", "holds", "()Z"⟩ : MethodName) ∈ gws := gmc5 111 (by decide +kernel) rfl
theorem g_1072 : Cond.selects "ConeForms$Requirement" (⟨"ConeForms$Requirement", "holds", "()Z"⟩ : MethodName) (⟨"ConeForms$Requirement", "holds", "()Z"⟩ : MethodName) ∈ gws := gmc5 112 (by decide +kernel) rfl
set_option maxRecDepth 100000 in
theorem g_1073 : Cond.code (⟨"ConeForms$Requirement", "holds", "()Z"⟩ : MethodName) prog_8_method_2_code 1 (Option.some FieldType.boolean) ∈ gws := gmc5 113 rfl rfl
theorem g_505 : Cond.fieldLink "ConeForms$Requirement" 20 "ConeForms$Node" "value" "I" ∈ gws := gmc3 25 (by decide +kernel) rfl
theorem g_1079 : Cond.methodLink "ConeFormsModel" 1 (⟨"java/lang/Object", "<init>", "()V"⟩ : MethodName) ∈ gws := gmc5 119 (by decide +kernel) rfl
theorem g_1080 : Cond.fieldLink "ConeFormsModel" 7 "ConeFormsModel" "line" "[I" ∈ gws := gmc5 120 (by decide +kernel) rfl
theorem g_1086 : Cond.fieldLink "ConeFormsModel" 13 "ConeFormsModel" "top" "[I" ∈ gws := gmc5 126 (by decide +kernel) rfl
theorem g_1087 : Cond.fieldLink "ConeFormsModel" 16 "ConeFormsModel" "commas" "[I" ∈ gws := gmc5 127 (by decide +kernel) rfl
theorem g_1089 : Cond.fieldLink "ConeFormsModel" 19 "ConeFormsModel" "outKind" "[I" ∈ gws := gmc5 129 (by decide +kernel) rfl
theorem g_1090 : Cond.fieldLink "ConeFormsModel" 22 "ConeFormsModel" "outNumber" "[I" ∈ gws := gmc5 130 (by decide +kernel) rfl
theorem g_1091 : Cond.fieldLink "ConeFormsModel" 25 "ConeFormsModel" "taken" "[I" ∈ gws := gmc5 131 (by decide +kernel) rfl
theorem g_1093 : Cond.fieldLink "ConeFormsModel" 28 "ConeFormsModel" "kind" "[I" ∈ gws := gmc5 133 (by decide +kernel) rfl
theorem g_1094 : Cond.fieldLink "ConeFormsModel" 31 "ConeFormsModel" "number" "[I" ∈ gws := gmc5 134 (by decide +kernel) rfl
theorem g_1095 : Cond.fieldLink "ConeFormsModel" 34 "ConeFormsModel" "argument" "[I" ∈ gws := gmc5 135 (by decide +kernel) rfl
theorem g_1189 : Cond.arrayClass FieldType.long ∈ gws := gmc5 229 (by decide +kernel) rfl
theorem g_1096 : Cond.fieldLink "ConeFormsModel" 37 "ConeFormsModel" "reaches" "[J" ∈ gws := gmc5 136 (by decide +kernel) rfl
theorem g_1097 : Cond.fieldLink "ConeFormsModel" 41 "ConeFormsModel" "given" "[I" ∈ gws := gmc5 137 (by decide +kernel) rfl
theorem g_1190 : Cond.arrayClass FieldType.boolean ∈ gws := gmc5 230 (by decide +kernel) rfl
theorem g_1098 : Cond.fieldLink "ConeFormsModel" 44 "ConeFormsModel" "above" "[Z" ∈ gws := gmc5 138 (by decide +kernel) rfl
theorem g_1099 : Cond.fieldLink "ConeFormsModel" 48 "ConeFormsModel" "below" "[Z" ∈ gws := gmc5 139 (by decide +kernel) rfl
theorem g_1100 : Cond.fieldLink "ConeFormsModel" 51 "ConeFormsModel" "curve" "[I" ∈ gws := gmc5 140 (by decide +kernel) rfl
theorem g_1101 : Cond.fieldLink "ConeFormsModel" 54 "ConeFormsModel" "blame" "[I" ∈ gws := gmc5 141 (by decide +kernel) rfl
theorem g_1102 : Cond.fieldLink "ConeFormsModel" 57 "ConeFormsModel" "worth" "[I" ∈ gws := gmc5 142 (by decide +kernel) rfl
theorem g_1103 : Cond.fieldLink "ConeFormsModel" 60 "ConeFormsModel" "used" "[Z" ∈ gws := gmc5 143 (by decide +kernel) rfl
theorem g_1104 : Cond.fieldLink "ConeFormsModel" 63 "ConeFormsModel" "met" "[Z" ∈ gws := gmc5 144 (by decide +kernel) rfl
theorem g_1105 : Cond.fieldLink "ConeFormsModel" 66 "ConeFormsModel" "walkNode" "[I" ∈ gws := gmc5 145 (by decide +kernel) rfl
theorem g_1106 : Cond.fieldLink "ConeFormsModel" 69 "ConeFormsModel" "walkNext" "[I" ∈ gws := gmc5 146 (by decide +kernel) rfl
theorem g_1107 : Cond.fieldLink "ConeFormsModel" 72 "ConeFormsModel" "linear" "[J" ∈ gws := gmc5 147 (by decide +kernel) rfl
theorem g_1108 : Cond.fieldLink "ConeFormsModel" 75 "ConeFormsModel" "goal" "I" ∈ gws := gmc5 148 (by decide +kernel) rfl
theorem g_1111 : Cond.fieldLink "ConeFormsModel" 79 "ConeFormsModel" "exact" "[Z" ∈ gws := gmc5 151 (by decide +kernel) rfl
theorem g_1112 : Cond.fieldLink "ConeFormsModel" 82 "ConeFormsModel" "left" "[I" ∈ gws := gmc5 152 (by decide +kernel) rfl
theorem g_1113 : Cond.fieldLink "ConeFormsModel" 85 "ConeFormsModel" "right" "[I" ∈ gws := gmc5 153 (by decide +kernel) rfl
theorem g_1115 : Cond.fieldLink "ConeFormsModel" 88 "ConeFormsModel" "own" "[I" ∈ gws := gmc5 155 (by decide +kernel) rfl
theorem g_1081 : Cond.fieldLink "ConeFormsModel" 91 "ConeFormsModel" "length" "I" ∈ gws := gmc5 121 (by decide +kernel) rfl
theorem g_1203 : Cond.methodLink "ConeFormsModel" 161 (⟨"ConeFormsModel", "parse", "()I"⟩ : MethodName) ∈ gws := gmc6 3 (by decide +kernel) rfl
theorem g_1205 : Cond.instanceMethod (⟨"ConeFormsModel", "parse", "()I"⟩ : MethodName) ∈ gws := gmc6 5 (by decide +kernel) rfl
theorem g_11 : Cond.initialized "ConeFormsModel" ∈ gws := gmc1 11 (by decide +kernel) rfl
set_option maxRecDepth 100000 in
theorem g_1206 : Cond.code (⟨"ConeFormsModel", "parse", "()I"⟩ : MethodName) prog_12_method_13_code 2 (Option.some FieldType.int) ∈ gws := gmc6 6 rfl rfl
theorem g_1092 : Cond.fieldLink "ConeFormsModel" 145 "ConeFormsModel" "count" "I" ∈ gws := gmc5 132 (by decide +kernel) rfl
theorem g_1242 : Cond.methodLink "ConeFormsModel" 165 (⟨"ConeFormsModel", "build", "(I)I"⟩ : MethodName) ∈ gws := gmc6 42 (by decide +kernel) rfl
theorem g_1244 : Cond.instanceMethod (⟨"ConeFormsModel", "build", "(I)I"⟩ : MethodName) ∈ gws := gmc6 44 (by decide +kernel) rfl
set_option maxRecDepth 100000 in
theorem g_1245 : Cond.code (⟨"ConeFormsModel", "build", "(I)I"⟩ : MethodName) prog_12_method_17_code 10 (Option.some FieldType.int) ∈ gws := gmc6 45 rfl rfl
theorem g_1082 : Cond.fieldLink "ConeFormsModel" 116 "ConeFormsModel" "mode" "I" ∈ gws := gmc5 122 (by decide +kernel) rfl
theorem g_1085 : Cond.fieldLink "ConeFormsModel" 97 "ConeFormsModel" "tops" "I" ∈ gws := gmc5 125 (by decide +kernel) rfl
theorem g_1088 : Cond.fieldLink "ConeFormsModel" 94 "ConeFormsModel" "outs" "I" ∈ gws := gmc5 128 (by decide +kernel) rfl
theorem g_1207 : Cond.methodLink "ConeFormsModel" 138 (⟨"ConeFormsModel", "accept", "(I)Z"⟩ : MethodName) ∈ gws := gmc6 7 (by decide +kernel) rfl
theorem g_1209 : Cond.instanceMethod (⟨"ConeFormsModel", "accept", "(I)Z"⟩ : MethodName) ∈ gws := gmc6 9 (by decide +kernel) rfl
set_option maxRecDepth 100000 in
theorem g_1210 : Cond.code (⟨"ConeFormsModel", "accept", "(I)Z"⟩ : MethodName) prog_12_method_12_code 3 (Option.some FieldType.boolean) ∈ gws := gmc6 10 rfl rfl
theorem g_1235 : Cond.methodLink "ConeFormsModel" 123 (⟨"ConeFormsModel", "unwind", "(Z)V"⟩ : MethodName) ∈ gws := gmc6 35 (by decide +kernel) rfl
theorem g_1237 : Cond.instanceMethod (⟨"ConeFormsModel", "unwind", "(Z)V"⟩ : MethodName) ∈ gws := gmc6 37 (by decide +kernel) rfl
set_option maxRecDepth 100000 in
theorem g_1238 : Cond.code (⟨"ConeFormsModel", "unwind", "(Z)V"⟩ : MethodName) prog_12_method_7_code 2 (Option.none : Option FieldType) ∈ gws := gmc6 38 rfl rfl
theorem g_1211 : Cond.methodLink "ConeFormsModel" 110 (⟨"ConeFormsModel", "operand", "(II)V"⟩ : MethodName) ∈ gws := gmc6 11 (by decide +kernel) rfl
theorem g_1213 : Cond.instanceMethod (⟨"ConeFormsModel", "operand", "(II)V"⟩ : MethodName) ∈ gws := gmc6 13 (by decide +kernel) rfl
set_option maxRecDepth 100000 in
theorem g_1214 : Cond.code (⟨"ConeFormsModel", "operand", "(II)V"⟩ : MethodName) prog_12_method_6_code 3 (Option.none : Option FieldType) ∈ gws := gmc6 14 rfl rfl
theorem g_1083 : Cond.fieldLink "ConeFormsModel" 113 "ConeFormsModel" "digits" "I" ∈ gws := gmc5 123 (by decide +kernel) rfl
theorem g_1084 : Cond.fieldLink "ConeFormsModel" 104 "ConeFormsModel" "numberAt" "I" ∈ gws := gmc5 124 (by decide +kernel) rfl
theorem g_1223 : Cond.methodLink "ConeFormsModel" 131 (⟨"ConeFormsModel", "begin", "(I)Z"⟩ : MethodName) ∈ gws := gmc6 23 (by decide +kernel) rfl
theorem g_1225 : Cond.instanceMethod (⟨"ConeFormsModel", "begin", "(I)Z"⟩ : MethodName) ∈ gws := gmc6 25 (by decide +kernel) rfl
set_option maxRecDepth 100000 in
theorem g_1226 : Cond.code (⟨"ConeFormsModel", "begin", "(I)Z"⟩ : MethodName) prog_12_method_9_code 2 (Option.some FieldType.boolean) ∈ gws := gmc6 26 rfl rfl
theorem g_1231 : Cond.methodLink "ConeFormsModel" 135 (⟨"ConeFormsModel", "follow", "(I)Z"⟩ : MethodName) ∈ gws := gmc6 31 (by decide +kernel) rfl
theorem g_1233 : Cond.instanceMethod (⟨"ConeFormsModel", "follow", "(I)Z"⟩ : MethodName) ∈ gws := gmc6 33 (by decide +kernel) rfl
set_option maxRecDepth 100000 in
theorem g_1234 : Cond.code (⟨"ConeFormsModel", "follow", "(I)Z"⟩ : MethodName) prog_12_method_11_code 4 (Option.some FieldType.boolean) ∈ gws := gmc6 34 rfl rfl
theorem g_1215 : Cond.methodLink "ConeFormsModel" 100 (⟨"ConeFormsModel", "emit", "(II)V"⟩ : MethodName) ∈ gws := gmc6 15 (by decide +kernel) rfl
theorem g_1217 : Cond.instanceMethod (⟨"ConeFormsModel", "emit", "(II)V"⟩ : MethodName) ∈ gws := gmc6 17 (by decide +kernel) rfl
set_option maxRecDepth 100000 in
theorem g_1218 : Cond.code (⟨"ConeFormsModel", "emit", "(II)V"⟩ : MethodName) prog_12_method_4_code 3 (Option.none : Option FieldType) ∈ gws := gmc6 18 rfl rfl
theorem g_1219 : Cond.methodLink "ConeFormsModel" 107 (⟨"ConeFormsModel", "negations", "()V"⟩ : MethodName) ∈ gws := gmc6 19 (by decide +kernel) rfl
theorem g_1221 : Cond.instanceMethod (⟨"ConeFormsModel", "negations", "()V"⟩ : MethodName) ∈ gws := gmc6 21 (by decide +kernel) rfl
set_option maxRecDepth 100000 in
theorem g_1222 : Cond.code (⟨"ConeFormsModel", "negations", "()V"⟩ : MethodName) prog_12_method_5_code 1 (Option.none : Option FieldType) ∈ gws := gmc6 22 rfl rfl
theorem g_1227 : Cond.methodLink "ConeFormsModel" 119 (⟨"ConeFormsModel", "open", "(I)V"⟩ : MethodName) ∈ gws := gmc6 27 (by decide +kernel) rfl
theorem g_1229 : Cond.instanceMethod (⟨"ConeFormsModel", "open", "(I)V"⟩ : MethodName) ∈ gws := gmc6 29 (by decide +kernel) rfl
set_option maxRecDepth 100000 in
theorem g_1230 : Cond.code (⟨"ConeFormsModel", "open", "(I)V"⟩ : MethodName) prog_12_method_8_code 2 (Option.none : Option FieldType) ∈ gws := gmc6 30 rfl rfl
theorem g_1239 : Cond.methodLink "ConeFormsModel" 127 (⟨"ConeFormsModel", "commasOf", "(I)I"⟩ : MethodName) ∈ gws := gmc6 39 (by decide +kernel) rfl
theorem g_1240 : Cond.static (⟨"ConeFormsModel", "commasOf", "(I)I"⟩ : MethodName) ∈ gws := gmc6 40 (by decide +kernel) rfl
set_option maxRecDepth 100000 in
theorem g_1241 : Cond.code (⟨"ConeFormsModel", "commasOf", "(I)I"⟩ : MethodName) prog_12_method_10_code 1 (Option.some FieldType.int) ∈ gws := gmc6 41 rfl rfl
theorem g_1246 : Cond.methodLink "ConeFormsModel" 154 (⟨"ConeFormsModel", "arity", "(I)I"⟩ : MethodName) ∈ gws := gmc6 46 (by decide +kernel) rfl
theorem g_1247 : Cond.static (⟨"ConeFormsModel", "arity", "(I)I"⟩ : MethodName) ∈ gws := gmc6 47 (by decide +kernel) rfl
set_option maxRecDepth 100000 in
theorem g_1248 : Cond.code (⟨"ConeFormsModel", "arity", "(I)I"⟩ : MethodName) prog_12_method_14_code 1 (Option.some FieldType.int) ∈ gws := gmc6 48 rfl rfl
theorem g_1249 : Cond.methodLink "ConeFormsModel" 157 (⟨"ConeFormsModel", "make", "(IIIII)I"⟩ : MethodName) ∈ gws := gmc6 49 (by decide +kernel) rfl
theorem g_1251 : Cond.instanceMethod (⟨"ConeFormsModel", "make", "(IIIII)I"⟩ : MethodName) ∈ gws := gmc6 51 (by decide +kernel) rfl
set_option maxRecDepth 100000 in
theorem g_1252 : Cond.code (⟨"ConeFormsModel", "make", "(IIIII)I"⟩ : MethodName) prog_12_method_16_code 8 (Option.some FieldType.int) ∈ gws := gmc6 52 rfl rfl
theorem g_1253 : Cond.methodLink "ConeFormsModel" 148 (⟨"ConeFormsModel", "reachOf", "(IIIII)J"⟩ : MethodName) ∈ gws := gmc6 53 (by decide +kernel) rfl
theorem g_1255 : Cond.instanceMethod (⟨"ConeFormsModel", "reachOf", "(IIIII)J"⟩ : MethodName) ∈ gws := gmc6 55 (by decide +kernel) rfl
set_option maxRecDepth 100000 in
theorem g_1256 : Cond.code (⟨"ConeFormsModel", "reachOf", "(IIIII)J"⟩ : MethodName) prog_12_method_15_code 6 (Option.some FieldType.long) ∈ gws := gmc6 56 rfl rfl
theorem g_1259 : Cond.constantLong "ConeFormsModel" 152 (1000000 : Int64) ∈ gws := gmc6 59 (by decide +kernel) rfl
theorem g_1257 : Cond.constantLong "ConeFormsModel" 141 (20 : Int64) ∈ gws := gmc6 57 (by decide +kernel) rfl
theorem g_1258 : Cond.constantLong "ConeFormsModel" 143 (9 : Int64) ∈ gws := gmc6 58 (by decide +kernel) rfl
theorem g_1268 : Cond.methodLink "ConeFormsModel" 200 (⟨"ConeFormsModel", "work", "()V"⟩ : MethodName) ∈ gws := gmc6 68 (by decide +kernel) rfl
theorem g_1270 : Cond.instanceMethod (⟨"ConeFormsModel", "work", "()V"⟩ : MethodName) ∈ gws := gmc6 70 (by decide +kernel) rfl
set_option maxRecDepth 100000 in
theorem g_1271 : Cond.code (⟨"ConeFormsModel", "work", "()V"⟩ : MethodName) prog_12_method_30_code 5 (Option.none : Option FieldType) ∈ gws := gmc6 71 rfl rfl
theorem g_1307 : Cond.methodLink "ConeFormsModel" 203 (⟨"ConeFormsModel", "isNode", "(I)Z"⟩ : MethodName) ∈ gws := gmc6 107 (by decide +kernel) rfl
theorem g_1309 : Cond.instanceMethod (⟨"ConeFormsModel", "isNode", "(I)Z"⟩ : MethodName) ∈ gws := gmc6 109 (by decide +kernel) rfl
set_option maxRecDepth 100000 in
theorem g_1310 : Cond.code (⟨"ConeFormsModel", "isNode", "(I)Z"⟩ : MethodName) prog_12_method_20_code 2 (Option.some FieldType.boolean) ∈ gws := gmc6 110 rfl rfl
theorem g_1272 : Cond.methodLink "ConeFormsModel" 186 (⟨"ConeFormsModel", "signs", "(IIII)V"⟩ : MethodName) ∈ gws := gmc6 72 (by decide +kernel) rfl
theorem g_1274 : Cond.instanceMethod (⟨"ConeFormsModel", "signs", "(IIII)V"⟩ : MethodName) ∈ gws := gmc6 74 (by decide +kernel) rfl
set_option maxRecDepth 100000 in
theorem g_1275 : Cond.code (⟨"ConeFormsModel", "signs", "(IIII)V"⟩ : MethodName) prog_12_method_21_code 7 (Option.none : Option FieldType) ∈ gws := gmc6 75 rfl rfl
theorem g_1276 : Cond.methodLink "ConeFormsModel" 190 (⟨"ConeFormsModel", "worthOf", "(IIII)I"⟩ : MethodName) ∈ gws := gmc6 76 (by decide +kernel) rfl
theorem g_1278 : Cond.instanceMethod (⟨"ConeFormsModel", "worthOf", "(IIII)I"⟩ : MethodName) ∈ gws := gmc6 78 (by decide +kernel) rfl
set_option maxRecDepth 100000 in
theorem g_1279 : Cond.code (⟨"ConeFormsModel", "worthOf", "(IIII)I"⟩ : MethodName) prog_12_method_23_code 5 (Option.some FieldType.int) ∈ gws := gmc6 79 rfl rfl
theorem g_1283 : Cond.methodLink "ConeFormsModel" 194 (⟨"ConeFormsModel", "curveOf", "(I)I"⟩ : MethodName) ∈ gws := gmc6 83 (by decide +kernel) rfl
theorem g_1285 : Cond.instanceMethod (⟨"ConeFormsModel", "curveOf", "(I)I"⟩ : MethodName) ∈ gws := gmc6 85 (by decide +kernel) rfl
set_option maxRecDepth 100000 in
theorem g_1286 : Cond.code (⟨"ConeFormsModel", "curveOf", "(I)I"⟩ : MethodName) prog_12_method_28_code 5 (Option.some FieldType.int) ∈ gws := gmc6 86 rfl rfl
theorem g_1303 : Cond.methodLink "ConeFormsModel" 197 (⟨"ConeFormsModel", "blameOf", "(I)I"⟩ : MethodName) ∈ gws := gmc6 103 (by decide +kernel) rfl
theorem g_1305 : Cond.instanceMethod (⟨"ConeFormsModel", "blameOf", "(I)I"⟩ : MethodName) ∈ gws := gmc6 105 (by decide +kernel) rfl
set_option maxRecDepth 100000 in
theorem g_1306 : Cond.code (⟨"ConeFormsModel", "blameOf", "(I)I"⟩ : MethodName) prog_12_method_29_code 3 (Option.some FieldType.int) ∈ gws := gmc6 106 rfl rfl
theorem g_1280 : Cond.methodLink "ConeFormsModel" 168 (⟨"ConeFormsModel", "greater", "(II)I"⟩ : MethodName) ∈ gws := gmc6 80 (by decide +kernel) rfl
theorem g_1281 : Cond.static (⟨"ConeFormsModel", "greater", "(II)I"⟩ : MethodName) ∈ gws := gmc6 81 (by decide +kernel) rfl
set_option maxRecDepth 100000 in
theorem g_1282 : Cond.code (⟨"ConeFormsModel", "greater", "(II)I"⟩ : MethodName) prog_12_method_22_code 2 (Option.some FieldType.int) ∈ gws := gmc6 82 rfl rfl
theorem g_1287 : Cond.methodLink "ConeFormsModel" 179 (⟨"ConeFormsModel", "having", "(III)I"⟩ : MethodName) ∈ gws := gmc6 87 (by decide +kernel) rfl
theorem g_1289 : Cond.instanceMethod (⟨"ConeFormsModel", "having", "(III)I"⟩ : MethodName) ∈ gws := gmc6 89 (by decide +kernel) rfl
set_option maxRecDepth 100000 in
theorem g_1290 : Cond.code (⟨"ConeFormsModel", "having", "(III)I"⟩ : MethodName) prog_12_method_27_code 7 (Option.some FieldType.int) ∈ gws := gmc6 90 rfl rfl
theorem g_1291 : Cond.methodLink "ConeFormsModel" 183 (⟨"ConeFormsModel", "firstNot", "(II)I"⟩ : MethodName) ∈ gws := gmc6 91 (by decide +kernel) rfl
theorem g_1293 : Cond.instanceMethod (⟨"ConeFormsModel", "firstNot", "(II)I"⟩ : MethodName) ∈ gws := gmc6 93 (by decide +kernel) rfl
set_option maxRecDepth 100000 in
theorem g_1294 : Cond.code (⟨"ConeFormsModel", "firstNot", "(II)I"⟩ : MethodName) prog_12_method_26_code 5 (Option.some FieldType.int) ∈ gws := gmc6 94 rfl rfl
theorem g_1295 : Cond.methodLink "ConeFormsModel" 175 (⟨"ConeFormsModel", "admits", "(III)Z"⟩ : MethodName) ∈ gws := gmc6 95 (by decide +kernel) rfl
theorem g_1297 : Cond.instanceMethod (⟨"ConeFormsModel", "admits", "(III)Z"⟩ : MethodName) ∈ gws := gmc6 97 (by decide +kernel) rfl
set_option maxRecDepth 100000 in
theorem g_1298 : Cond.code (⟨"ConeFormsModel", "admits", "(III)Z"⟩ : MethodName) prog_12_method_25_code 6 (Option.some FieldType.boolean) ∈ gws := gmc6 98 rfl rfl
theorem g_1299 : Cond.methodLink "ConeFormsModel" 172 (⟨"ConeFormsModel", "trend", "(II)I"⟩ : MethodName) ∈ gws := gmc6 99 (by decide +kernel) rfl
theorem g_1301 : Cond.instanceMethod (⟨"ConeFormsModel", "trend", "(II)I"⟩ : MethodName) ∈ gws := gmc6 101 (by decide +kernel) rfl
set_option maxRecDepth 100000 in
theorem g_1302 : Cond.code (⟨"ConeFormsModel", "trend", "(II)I"⟩ : MethodName) prog_12_method_24_code 5 (Option.some FieldType.int) ∈ gws := gmc6 102 rfl rfl
theorem g_1323 : Cond.methodLink "ConeFormsModel" 206 (⟨"ConeFormsModel", "walk", "(I)I"⟩ : MethodName) ∈ gws := gmc6 123 (by decide +kernel) rfl
theorem g_1325 : Cond.instanceMethod (⟨"ConeFormsModel", "walk", "(I)I"⟩ : MethodName) ∈ gws := gmc6 125 (by decide +kernel) rfl
set_option maxRecDepth 100000 in
theorem g_1326 : Cond.code (⟨"ConeFormsModel", "walk", "(I)I"⟩ : MethodName) prog_12_method_34_code 7 (Option.some FieldType.int) ∈ gws := gmc6 126 rfl rfl
theorem g_1109 : Cond.fieldLink "ConeFormsModel" 209 "ConeFormsModel" "goalLeast" "Z" ∈ gws := gmc5 149 (by decide +kernel) rfl
theorem g_1114 : Cond.fieldLink "ConeFormsModel" 213 "ConeFormsModel" "stands" "Z" ∈ gws := gmc5 154 (by decide +kernel) rfl
theorem g_1110 : Cond.fieldLink "ConeFormsModel" 216 "ConeFormsModel" "requirements" "I" ∈ gws := gmc5 150 (by decide +kernel) rfl
theorem g_1347 : Cond.methodLink "ConeFormsModel" 223 (⟨"ConeFormsModel", "wrongPart", "()I"⟩ : MethodName) ∈ gws := gmc6 147 (by decide +kernel) rfl
theorem g_1349 : Cond.instanceMethod (⟨"ConeFormsModel", "wrongPart", "()I"⟩ : MethodName) ∈ gws := gmc6 149 (by decide +kernel) rfl
set_option maxRecDepth 100000 in
theorem g_1350 : Cond.code (⟨"ConeFormsModel", "wrongPart", "()I"⟩ : MethodName) prog_12_method_41_code 2 (Option.some FieldType.int) ∈ gws := gmc6 150 rfl rfl
theorem g_1355 : Cond.methodLink "ConeFormsModel" 226 (⟨"ConeFormsModel", "mark", "()V"⟩ : MethodName) ∈ gws := gmc6 155 (by decide +kernel) rfl
theorem g_1357 : Cond.instanceMethod (⟨"ConeFormsModel", "mark", "()V"⟩ : MethodName) ∈ gws := gmc6 157 (by decide +kernel) rfl
set_option maxRecDepth 100000 in
theorem g_1358 : Cond.code (⟨"ConeFormsModel", "mark", "()V"⟩ : MethodName) prog_12_method_43_code 3 (Option.none : Option FieldType) ∈ gws := gmc6 158 rfl rfl
theorem g_1359 : Cond.methodLink "ConeFormsModel" 229 (⟨"ConeFormsModel", "columns", "()I"⟩ : MethodName) ∈ gws := gmc6 159 (by decide +kernel) rfl
theorem g_1361 : Cond.instanceMethod (⟨"ConeFormsModel", "columns", "()I"⟩ : MethodName) ∈ gws := gmc6 161 (by decide +kernel) rfl
set_option maxRecDepth 100000 in
theorem g_1362 : Cond.code (⟨"ConeFormsModel", "columns", "()I"⟩ : MethodName) prog_12_method_46_code 3 (Option.some FieldType.int) ∈ gws := gmc6 162 rfl rfl
theorem g_1351 : Cond.methodLink "ConeFormsModel" 219 (⟨"ConeFormsModel", "good", "(II)Z"⟩ : MethodName) ∈ gws := gmc6 151 (by decide +kernel) rfl
theorem g_1353 : Cond.instanceMethod (⟨"ConeFormsModel", "good", "(II)Z"⟩ : MethodName) ∈ gws := gmc6 153 (by decide +kernel) rfl
set_option maxRecDepth 100000 in
theorem g_1354 : Cond.code (⟨"ConeFormsModel", "good", "(II)Z"⟩ : MethodName) prog_12_method_40_code 3 (Option.some FieldType.boolean) ∈ gws := gmc6 154 rfl rfl
theorem g_1363 : Cond.methodLink "ConeFormsModel" 232 (⟨"ConeFormsModel", "variable", "(I)Z"⟩ : MethodName) ∈ gws := gmc6 163 (by decide +kernel) rfl
theorem g_1365 : Cond.instanceMethod (⟨"ConeFormsModel", "variable", "(I)Z"⟩ : MethodName) ∈ gws := gmc6 165 (by decide +kernel) rfl
set_option maxRecDepth 100000 in
theorem g_1366 : Cond.code (⟨"ConeFormsModel", "variable", "(I)Z"⟩ : MethodName) prog_12_method_45_code 2 (Option.some FieldType.boolean) ∈ gws := gmc6 166 rfl rfl
theorem g_1367 : Cond.methodLink "ConeFormsModel" 235 (⟨"ConeFormsModel", "auxiliary", "(I)Z"⟩ : MethodName) ∈ gws := gmc6 167 (by decide +kernel) rfl
theorem g_1369 : Cond.instanceMethod (⟨"ConeFormsModel", "auxiliary", "(I)Z"⟩ : MethodName) ∈ gws := gmc6 169 (by decide +kernel) rfl
set_option maxRecDepth 100000 in
theorem g_1370 : Cond.code (⟨"ConeFormsModel", "auxiliary", "(I)Z"⟩ : MethodName) prog_12_method_44_code 2 (Option.some FieldType.boolean) ∈ gws := gmc6 170 rfl rfl
theorem g_1375 : Cond.methodLink "ConeFormsModel" 238 (⟨"ConeFormsModel", "place", "(I)I"⟩ : MethodName) ∈ gws := gmc6 175 (by decide +kernel) rfl
theorem g_1377 : Cond.instanceMethod (⟨"ConeFormsModel", "place", "(I)I"⟩ : MethodName) ∈ gws := gmc6 177 (by decide +kernel) rfl
set_option maxRecDepth 100000 in
theorem g_1378 : Cond.code (⟨"ConeFormsModel", "place", "(I)I"⟩ : MethodName) prog_12_method_47_code 5 (Option.some FieldType.int) ∈ gws := gmc6 178 rfl rfl
theorem g_1383 : Cond.methodLink "ConeFormsModel" 248 (⟨"ConeFormsModel", "rowCount", "(I)I"⟩ : MethodName) ∈ gws := gmc6 183 (by decide +kernel) rfl
theorem g_1385 : Cond.instanceMethod (⟨"ConeFormsModel", "rowCount", "(I)I"⟩ : MethodName) ∈ gws := gmc6 185 (by decide +kernel) rfl
set_option maxRecDepth 100000 in
theorem g_1386 : Cond.code (⟨"ConeFormsModel", "rowCount", "(I)I"⟩ : MethodName) prog_12_method_52_code 4 (Option.some FieldType.int) ∈ gws := gmc6 186 rfl rfl
theorem g_1387 : Cond.methodLink "ConeFormsModel" 245 (⟨"ConeFormsModel", "rowsOf", "(I)I"⟩ : MethodName) ∈ gws := gmc6 187 (by decide +kernel) rfl
theorem g_1388 : Cond.static (⟨"ConeFormsModel", "rowsOf", "(I)I"⟩ : MethodName) ∈ gws := gmc6 188 (by decide +kernel) rfl
set_option maxRecDepth 100000 in
theorem g_1389 : Cond.code (⟨"ConeFormsModel", "rowsOf", "(I)I"⟩ : MethodName) prog_12_method_51_code 1 (Option.some FieldType.int) ∈ gws := gmc6 189 rfl rfl
theorem g_1394 : Cond.methodLink "ConeFormsModel" 256 (⟨"ConeFormsModel", "allRows", "()I"⟩ : MethodName) ∈ gws := gmc6 194 (by decide +kernel) rfl
theorem g_1396 : Cond.instanceMethod (⟨"ConeFormsModel", "allRows", "()I"⟩ : MethodName) ∈ gws := gmc6 196 (by decide +kernel) rfl
set_option maxRecDepth 100000 in
theorem g_1397 : Cond.code (⟨"ConeFormsModel", "allRows", "()I"⟩ : MethodName) prog_12_method_56_code 1 (Option.some FieldType.int) ∈ gws := gmc6 197 rfl rfl
theorem g_1398 : Cond.methodLink "ConeFormsModel" 259 (⟨"ConeFormsModel", "expand", "(I)V"⟩ : MethodName) ∈ gws := gmc6 198 (by decide +kernel) rfl
theorem g_1400 : Cond.instanceMethod (⟨"ConeFormsModel", "expand", "(I)V"⟩ : MethodName) ∈ gws := gmc6 200 (by decide +kernel) rfl
set_option maxRecDepth 100000 in
theorem g_1401 : Cond.code (⟨"ConeFormsModel", "expand", "(I)V"⟩ : MethodName) prog_12_method_50_code 5 (Option.none : Option FieldType) ∈ gws := gmc6 201 rfl rfl
theorem g_1406 : Cond.methodLink "ConeFormsModel" 262 (⟨"ConeFormsModel", "rowValue", "(I)J"⟩ : MethodName) ∈ gws := gmc6 206 (by decide +kernel) rfl
theorem g_1408 : Cond.instanceMethod (⟨"ConeFormsModel", "rowValue", "(I)J"⟩ : MethodName) ∈ gws := gmc6 208 (by decide +kernel) rfl
set_option maxRecDepth 100000 in
theorem g_1409 : Cond.code (⟨"ConeFormsModel", "rowValue", "(I)J"⟩ : MethodName) prog_12_method_55_code 6 (Option.some FieldType.long) ∈ gws := gmc6 209 rfl rfl
theorem g_1402 : Cond.methodLink "ConeFormsModel" 241 (⟨"ConeFormsModel", "chosen", "(II)J"⟩ : MethodName) ∈ gws := gmc6 202 (by decide +kernel) rfl
theorem g_1404 : Cond.instanceMethod (⟨"ConeFormsModel", "chosen", "(II)J"⟩ : MethodName) ∈ gws := gmc6 204 (by decide +kernel) rfl
set_option maxRecDepth 100000 in
theorem g_1405 : Cond.code (⟨"ConeFormsModel", "chosen", "(II)J"⟩ : MethodName) prog_12_method_49_code 3 (Option.some FieldType.long) ∈ gws := gmc6 205 rfl rfl
theorem g_1410 : Cond.methodLink "ConeFormsModel" 253 (⟨"ConeFormsModel", "rowOf", "(II)J"⟩ : MethodName) ∈ gws := gmc6 210 (by decide +kernel) rfl
theorem g_1412 : Cond.instanceMethod (⟨"ConeFormsModel", "rowOf", "(II)J"⟩ : MethodName) ∈ gws := gmc6 212 (by decide +kernel) rfl
set_option maxRecDepth 100000 in
theorem g_1413 : Cond.code (⟨"ConeFormsModel", "rowOf", "(II)J"⟩ : MethodName) prog_12_method_54_code 13 (Option.some FieldType.long) ∈ gws := gmc6 213 rfl rfl
theorem g_1414 : Cond.constantLong "ConeFormsModel" 251 (2 : Int64) ∈ gws := gmc6 214 (by decide +kernel) rfl
theorem g_1419 : Cond.constant "ConeFormsModel" 266 (1000000 : Int32) ∈ gws := gmc6 219 (by decide +kernel) rfl
theorem g_1428 : Cond.methodLink "ConeFormsModel" 267 (⟨"ConeFormsModel", "inside", "(JJJ)Z"⟩ : MethodName) ∈ gws := gmc6 228 (by decide +kernel) rfl
theorem g_1429 : Cond.static (⟨"ConeFormsModel", "inside", "(JJJ)Z"⟩ : MethodName) ∈ gws := gmc6 229 (by decide +kernel) rfl
set_option maxRecDepth 100000 in
theorem g_1430 : Cond.code (⟨"ConeFormsModel", "inside", "(JJJ)Z"⟩ : MethodName) prog_12_method_60_code 6 (Option.some FieldType.boolean) ∈ gws := gmc6 230 rfl rfl
theorem g_28 : Cond.classLink "ConeFormsLaw" 7 "ConeForms" ∈ gws := gmc1 28 (by decide +kernel) rfl
theorem g_29 : Cond.instantiable "ConeForms" 17 ∈ gws := gmc1 29 (by decide +kernel) rfl
theorem g_30 : Cond.methodLink "ConeFormsLaw" 9 (⟨"ConeForms", "<init>", "()V"⟩ : MethodName) ∈ gws := gmc1 30 (by decide +kernel) rfl
theorem g_31 : Cond.instanceMethod (⟨"ConeForms", "<init>", "()V"⟩ : MethodName) ∈ gws := gmc1 31 (by decide +kernel) rfl
set_option maxRecDepth 100000 in
theorem g_32 : Cond.code (⟨"ConeForms", "<init>", "()V"⟩ : MethodName) prog_1_method_3_code 1 (Option.none : Option FieldType) ∈ gws := gmc1 32 rfl rfl
theorem g_1074 : Cond.classLink "ConeFormsLaw" 10 "ConeFormsModel" ∈ gws := gmc5 114 (by decide +kernel) rfl
theorem g_1075 : Cond.instantiable "ConeFormsModel" 36 ∈ gws := gmc5 115 (by decide +kernel) rfl
theorem g_1076 : Cond.methodLink "ConeFormsLaw" 12 (⟨"ConeFormsModel", "<init>", "()V"⟩ : MethodName) ∈ gws := gmc5 116 (by decide +kernel) rfl
theorem g_1077 : Cond.instanceMethod (⟨"ConeFormsModel", "<init>", "()V"⟩ : MethodName) ∈ gws := gmc5 117 (by decide +kernel) rfl
set_option maxRecDepth 100000 in
theorem g_1078 : Cond.code (⟨"ConeFormsModel", "<init>", "()V"⟩ : MethodName) prog_12_method_1_code 1 (Option.none : Option FieldType) ∈ gws := gmc5 118 rfl rfl
theorem g_208 : Cond.methodLink "ConeFormsLaw" 13 (⟨"ConeForms", "type", "(C)Z"⟩ : MethodName) ∈ gws := gmc1 208 (by decide +kernel) rfl
theorem g_209 : Cond.instanceMethod (⟨"ConeForms", "type", "(C)Z"⟩ : MethodName) ∈ gws := gmc1 209 (by decide +kernel) rfl
theorem g_210 : Cond.selects "ConeForms" (⟨"ConeForms", "type", "(C)Z"⟩ : MethodName) (⟨"ConeForms", "type", "(C)Z"⟩ : MethodName) ∈ gws := gmc1 210 (by decide +kernel) rfl
set_option maxRecDepth 100000 in
theorem g_211 : Cond.code (⟨"ConeForms", "type", "(C)Z"⟩ : MethodName) prog_1_method_4_code 2 (Option.some FieldType.boolean) ∈ gws := gmc1 211 rfl rfl
theorem g_1191 : Cond.methodLink "ConeFormsLaw" 17 (⟨"ConeFormsModel", "type", "(C)Z"⟩ : MethodName) ∈ gws := gmc5 231 (by decide +kernel) rfl
theorem g_1192 : Cond.instanceMethod (⟨"ConeFormsModel", "type", "(C)Z"⟩ : MethodName) ∈ gws := gmc5 232 (by decide +kernel) rfl
theorem g_1193 : Cond.selects "ConeFormsModel" (⟨"ConeFormsModel", "type", "(C)Z"⟩ : MethodName) (⟨"ConeFormsModel", "type", "(C)Z"⟩ : MethodName) ∈ gws := gmc5 233 (by decide +kernel) rfl
set_option maxRecDepth 100000 in
theorem g_1194 : Cond.code (⟨"ConeFormsModel", "type", "(C)Z"⟩ : MethodName) prog_12_method_2_code 2 (Option.some FieldType.boolean) ∈ gws := gmc5 234 rfl rfl
theorem g_314 : Cond.methodLink "ConeFormsLaw" 18 (⟨"ConeForms", "wipe", "()V"⟩ : MethodName) ∈ gws := gmc2 74 (by decide +kernel) rfl
theorem g_315 : Cond.instanceMethod (⟨"ConeForms", "wipe", "()V"⟩ : MethodName) ∈ gws := gmc2 75 (by decide +kernel) rfl
theorem g_316 : Cond.selects "ConeForms" (⟨"ConeForms", "wipe", "()V"⟩ : MethodName) (⟨"ConeForms", "wipe", "()V"⟩ : MethodName) ∈ gws := gmc2 76 (by decide +kernel) rfl
set_option maxRecDepth 100000 in
theorem g_317 : Cond.code (⟨"ConeForms", "wipe", "()V"⟩ : MethodName) prog_1_method_5_code 1 (Option.none : Option FieldType) ∈ gws := gmc2 77 rfl rfl
theorem g_1195 : Cond.methodLink "ConeFormsLaw" 21 (⟨"ConeFormsModel", "wipe", "()V"⟩ : MethodName) ∈ gws := gmc5 235 (by decide +kernel) rfl
theorem g_1196 : Cond.instanceMethod (⟨"ConeFormsModel", "wipe", "()V"⟩ : MethodName) ∈ gws := gmc5 236 (by decide +kernel) rfl
theorem g_1197 : Cond.selects "ConeFormsModel" (⟨"ConeFormsModel", "wipe", "()V"⟩ : MethodName) (⟨"ConeFormsModel", "wipe", "()V"⟩ : MethodName) ∈ gws := gmc5 237 (by decide +kernel) rfl
set_option maxRecDepth 100000 in
theorem g_1198 : Cond.code (⟨"ConeFormsModel", "wipe", "()V"⟩ : MethodName) prog_12_method_3_code 1 (Option.none : Option FieldType) ∈ gws := gmc5 238 rfl rfl
theorem g_338 : Cond.methodLink "ConeFormsLaw" 22 (⟨"ConeForms", "read", "()I"⟩ : MethodName) ∈ gws := gmc2 98 (by decide +kernel) rfl
theorem g_339 : Cond.instanceMethod (⟨"ConeForms", "read", "()I"⟩ : MethodName) ∈ gws := gmc2 99 (by decide +kernel) rfl
theorem g_340 : Cond.selects "ConeForms" (⟨"ConeForms", "read", "()I"⟩ : MethodName) (⟨"ConeForms", "read", "()I"⟩ : MethodName) ∈ gws := gmc2 100 (by decide +kernel) rfl
set_option maxRecDepth 100000 in
theorem g_341 : Cond.code (⟨"ConeForms", "read", "()I"⟩ : MethodName) prog_1_method_6_code 3 (Option.some FieldType.int) ∈ gws := gmc2 101 rfl rfl
theorem g_1199 : Cond.methodLink "ConeFormsLaw" 26 (⟨"ConeFormsModel", "read", "()I"⟩ : MethodName) ∈ gws := gmc5 239 (by decide +kernel) rfl
theorem g_1200 : Cond.instanceMethod (⟨"ConeFormsModel", "read", "()I"⟩ : MethodName) ∈ gws := gmc6 0 (by decide +kernel) rfl
theorem g_1201 : Cond.selects "ConeFormsModel" (⟨"ConeFormsModel", "read", "()I"⟩ : MethodName) (⟨"ConeFormsModel", "read", "()I"⟩ : MethodName) ∈ gws := gmc6 1 (by decide +kernel) rfl
set_option maxRecDepth 100000 in
theorem g_1202 : Cond.code (⟨"ConeFormsModel", "read", "()I"⟩ : MethodName) prog_12_method_18_code 4 (Option.some FieldType.int) ∈ gws := gmc6 2 rfl rfl
theorem g_808 : Cond.methodLink "ConeFormsLaw" 27 (⟨"ConeForms", "nodes", "()I"⟩ : MethodName) ∈ gws := gmc4 88 (by decide +kernel) rfl
theorem g_809 : Cond.instanceMethod (⟨"ConeForms", "nodes", "()I"⟩ : MethodName) ∈ gws := gmc4 89 (by decide +kernel) rfl
theorem g_810 : Cond.selects "ConeForms" (⟨"ConeForms", "nodes", "()I"⟩ : MethodName) (⟨"ConeForms", "nodes", "()I"⟩ : MethodName) ∈ gws := gmc4 90 (by decide +kernel) rfl
set_option maxRecDepth 100000 in
theorem g_811 : Cond.code (⟨"ConeForms", "nodes", "()I"⟩ : MethodName) prog_1_method_12_code 1 (Option.some FieldType.int) ∈ gws := gmc4 91 rfl rfl
theorem g_1260 : Cond.methodLink "ConeFormsLaw" 30 (⟨"ConeFormsModel", "nodes", "()I"⟩ : MethodName) ∈ gws := gmc6 60 (by decide +kernel) rfl
theorem g_1261 : Cond.instanceMethod (⟨"ConeFormsModel", "nodes", "()I"⟩ : MethodName) ∈ gws := gmc6 61 (by decide +kernel) rfl
theorem g_1262 : Cond.selects "ConeFormsModel" (⟨"ConeFormsModel", "nodes", "()I"⟩ : MethodName) (⟨"ConeFormsModel", "nodes", "()I"⟩ : MethodName) ∈ gws := gmc6 62 (by decide +kernel) rfl
set_option maxRecDepth 100000 in
theorem g_1263 : Cond.code (⟨"ConeFormsModel", "nodes", "()I"⟩ : MethodName) prog_12_method_19_code 1 (Option.some FieldType.int) ∈ gws := gmc6 63 rfl rfl
theorem g_812 : Cond.methodLink "ConeFormsLaw" 31 (⟨"ConeForms", "attributes", "(I)I"⟩ : MethodName) ∈ gws := gmc4 92 (by decide +kernel) rfl
theorem g_813 : Cond.instanceMethod (⟨"ConeForms", "attributes", "(I)I"⟩ : MethodName) ∈ gws := gmc4 93 (by decide +kernel) rfl
theorem g_814 : Cond.selects "ConeForms" (⟨"ConeForms", "attributes", "(I)I"⟩ : MethodName) (⟨"ConeForms", "attributes", "(I)I"⟩ : MethodName) ∈ gws := gmc4 94 (by decide +kernel) rfl
set_option maxRecDepth 100000 in
theorem g_815 : Cond.code (⟨"ConeForms", "attributes", "(I)I"⟩ : MethodName) prog_1_method_13_code 3 (Option.some FieldType.int) ∈ gws := gmc4 95 rfl rfl
theorem g_1264 : Cond.methodLink "ConeFormsLaw" 35 (⟨"ConeFormsModel", "attributes", "(I)I"⟩ : MethodName) ∈ gws := gmc6 64 (by decide +kernel) rfl
theorem g_1265 : Cond.instanceMethod (⟨"ConeFormsModel", "attributes", "(I)I"⟩ : MethodName) ∈ gws := gmc6 65 (by decide +kernel) rfl
theorem g_1266 : Cond.selects "ConeFormsModel" (⟨"ConeFormsModel", "attributes", "(I)I"⟩ : MethodName) (⟨"ConeFormsModel", "attributes", "(I)I"⟩ : MethodName) ∈ gws := gmc6 66 (by decide +kernel) rfl
set_option maxRecDepth 100000 in
theorem g_1267 : Cond.code (⟨"ConeFormsModel", "attributes", "(I)I"⟩ : MethodName) prog_12_method_31_code 2 (Option.some FieldType.int) ∈ gws := gmc6 67 rfl rfl
theorem g_820 : Cond.methodLink "ConeFormsLaw" 36 (⟨"ConeForms", "reach", "(I)I"⟩ : MethodName) ∈ gws := gmc4 100 (by decide +kernel) rfl
theorem g_821 : Cond.instanceMethod (⟨"ConeForms", "reach", "(I)I"⟩ : MethodName) ∈ gws := gmc4 101 (by decide +kernel) rfl
theorem g_822 : Cond.selects "ConeForms" (⟨"ConeForms", "reach", "(I)I"⟩ : MethodName) (⟨"ConeForms", "reach", "(I)I"⟩ : MethodName) ∈ gws := gmc4 102 (by decide +kernel) rfl
set_option maxRecDepth 100000 in
theorem g_823 : Cond.code (⟨"ConeForms", "reach", "(I)I"⟩ : MethodName) prog_1_method_14_code 3 (Option.some FieldType.int) ∈ gws := gmc4 103 rfl rfl
theorem g_1311 : Cond.methodLink "ConeFormsLaw" 39 (⟨"ConeFormsModel", "reach", "(I)I"⟩ : MethodName) ∈ gws := gmc6 111 (by decide +kernel) rfl
theorem g_1312 : Cond.instanceMethod (⟨"ConeFormsModel", "reach", "(I)I"⟩ : MethodName) ∈ gws := gmc6 112 (by decide +kernel) rfl
theorem g_1313 : Cond.selects "ConeFormsModel" (⟨"ConeFormsModel", "reach", "(I)I"⟩ : MethodName) (⟨"ConeFormsModel", "reach", "(I)I"⟩ : MethodName) ∈ gws := gmc6 113 (by decide +kernel) rfl
set_option maxRecDepth 100000 in
theorem g_1314 : Cond.code (⟨"ConeFormsModel", "reach", "(I)I"⟩ : MethodName) prog_12_method_32_code 2 (Option.some FieldType.int) ∈ gws := gmc6 114 rfl rfl
theorem g_828 : Cond.methodLink "ConeFormsLaw" 40 (⟨"ConeForms", "set", "(II)Z"⟩ : MethodName) ∈ gws := gmc4 108 (by decide +kernel) rfl
theorem g_829 : Cond.instanceMethod (⟨"ConeForms", "set", "(II)Z"⟩ : MethodName) ∈ gws := gmc4 109 (by decide +kernel) rfl
theorem g_830 : Cond.selects "ConeForms" (⟨"ConeForms", "set", "(II)Z"⟩ : MethodName) (⟨"ConeForms", "set", "(II)Z"⟩ : MethodName) ∈ gws := gmc4 110 (by decide +kernel) rfl
set_option maxRecDepth 100000 in
theorem g_831 : Cond.code (⟨"ConeForms", "set", "(II)Z"⟩ : MethodName) prog_1_method_17_code 8 (Option.some FieldType.boolean) ∈ gws := gmc4 111 rfl rfl
theorem g_1415 : Cond.methodLink "ConeFormsLaw" 44 (⟨"ConeFormsModel", "set", "(II)Z"⟩ : MethodName) ∈ gws := gmc6 215 (by decide +kernel) rfl
theorem g_1416 : Cond.instanceMethod (⟨"ConeFormsModel", "set", "(II)Z"⟩ : MethodName) ∈ gws := gmc6 216 (by decide +kernel) rfl
theorem g_1417 : Cond.selects "ConeFormsModel" (⟨"ConeFormsModel", "set", "(II)Z"⟩ : MethodName) (⟨"ConeFormsModel", "set", "(II)Z"⟩ : MethodName) ∈ gws := gmc6 217 (by decide +kernel) rfl
set_option maxRecDepth 100000 in
theorem g_1418 : Cond.code (⟨"ConeFormsModel", "set", "(II)Z"⟩ : MethodName) prog_12_method_58_code 4 (Option.some FieldType.boolean) ∈ gws := gmc6 218 rfl rfl
theorem g_824 : Cond.methodLink "ConeFormsLaw" 45 (⟨"ConeForms", "value", "(I)I"⟩ : MethodName) ∈ gws := gmc4 104 (by decide +kernel) rfl
theorem g_825 : Cond.instanceMethod (⟨"ConeForms", "value", "(I)I"⟩ : MethodName) ∈ gws := gmc4 105 (by decide +kernel) rfl
theorem g_826 : Cond.selects "ConeForms" (⟨"ConeForms", "value", "(I)I"⟩ : MethodName) (⟨"ConeForms", "value", "(I)I"⟩ : MethodName) ∈ gws := gmc4 106 (by decide +kernel) rfl
set_option maxRecDepth 100000 in
theorem g_827 : Cond.code (⟨"ConeForms", "value", "(I)I"⟩ : MethodName) prog_1_method_15_code 3 (Option.some FieldType.int) ∈ gws := gmc4 107 rfl rfl
theorem g_1315 : Cond.methodLink "ConeFormsLaw" 48 (⟨"ConeFormsModel", "value", "(I)I"⟩ : MethodName) ∈ gws := gmc6 115 (by decide +kernel) rfl
theorem g_1316 : Cond.instanceMethod (⟨"ConeFormsModel", "value", "(I)I"⟩ : MethodName) ∈ gws := gmc6 116 (by decide +kernel) rfl
theorem g_1317 : Cond.selects "ConeFormsModel" (⟨"ConeFormsModel", "value", "(I)I"⟩ : MethodName) (⟨"ConeFormsModel", "value", "(I)I"⟩ : MethodName) ∈ gws := gmc6 117 (by decide +kernel) rfl
set_option maxRecDepth 100000 in
theorem g_1318 : Cond.code (⟨"ConeFormsModel", "value", "(I)I"⟩ : MethodName) prog_12_method_33_code 2 (Option.some FieldType.int) ∈ gws := gmc6 118 rfl rfl
theorem g_893 : Cond.methodLink "ConeFormsLaw" 49 (⟨"ConeForms", "culprit", "(I)I"⟩ : MethodName) ∈ gws := gmc4 173 (by decide +kernel) rfl
theorem g_894 : Cond.instanceMethod (⟨"ConeForms", "culprit", "(I)I"⟩ : MethodName) ∈ gws := gmc4 174 (by decide +kernel) rfl
theorem g_895 : Cond.selects "ConeForms" (⟨"ConeForms", "culprit", "(I)I"⟩ : MethodName) (⟨"ConeForms", "culprit", "(I)I"⟩ : MethodName) ∈ gws := gmc4 175 (by decide +kernel) rfl
set_option maxRecDepth 100000 in
theorem g_896 : Cond.code (⟨"ConeForms", "culprit", "(I)I"⟩ : MethodName) prog_1_method_20_code 4 (Option.some FieldType.int) ∈ gws := gmc4 176 rfl rfl
theorem g_1319 : Cond.methodLink "ConeFormsLaw" 52 (⟨"ConeFormsModel", "culprit", "(I)I"⟩ : MethodName) ∈ gws := gmc6 119 (by decide +kernel) rfl
theorem g_1320 : Cond.instanceMethod (⟨"ConeFormsModel", "culprit", "(I)I"⟩ : MethodName) ∈ gws := gmc6 120 (by decide +kernel) rfl
theorem g_1321 : Cond.selects "ConeFormsModel" (⟨"ConeFormsModel", "culprit", "(I)I"⟩ : MethodName) (⟨"ConeFormsModel", "culprit", "(I)I"⟩ : MethodName) ∈ gws := gmc6 121 (by decide +kernel) rfl
set_option maxRecDepth 100000 in
theorem g_1322 : Cond.code (⟨"ConeFormsModel", "culprit", "(I)I"⟩ : MethodName) prog_12_method_35_code 2 (Option.some FieldType.int) ∈ gws := gmc6 122 rfl rfl
theorem g_904 : Cond.methodLink "ConeFormsLaw" 53 (⟨"ConeForms", "objective", "(IZ)Z"⟩ : MethodName) ∈ gws := gmc4 184 (by decide +kernel) rfl
theorem g_905 : Cond.instanceMethod (⟨"ConeForms", "objective", "(IZ)Z"⟩ : MethodName) ∈ gws := gmc4 185 (by decide +kernel) rfl
theorem g_906 : Cond.selects "ConeForms" (⟨"ConeForms", "objective", "(IZ)Z"⟩ : MethodName) (⟨"ConeForms", "objective", "(IZ)Z"⟩ : MethodName) ∈ gws := gmc4 186 (by decide +kernel) rfl
set_option maxRecDepth 100000 in
theorem g_907 : Cond.code (⟨"ConeForms", "objective", "(IZ)Z"⟩ : MethodName) prog_1_method_22_code 4 (Option.some FieldType.boolean) ∈ gws := gmc4 187 rfl rfl
theorem g_1327 : Cond.methodLink "ConeFormsLaw" 57 (⟨"ConeFormsModel", "objective", "(IZ)Z"⟩ : MethodName) ∈ gws := gmc6 127 (by decide +kernel) rfl
theorem g_1328 : Cond.instanceMethod (⟨"ConeFormsModel", "objective", "(IZ)Z"⟩ : MethodName) ∈ gws := gmc6 128 (by decide +kernel) rfl
theorem g_1329 : Cond.selects "ConeFormsModel" (⟨"ConeFormsModel", "objective", "(IZ)Z"⟩ : MethodName) (⟨"ConeFormsModel", "objective", "(IZ)Z"⟩ : MethodName) ∈ gws := gmc6 129 (by decide +kernel) rfl
set_option maxRecDepth 100000 in
theorem g_1330 : Cond.code (⟨"ConeFormsModel", "objective", "(IZ)Z"⟩ : MethodName) prog_12_method_36_code 3 (Option.some FieldType.boolean) ∈ gws := gmc6 130 rfl rfl
theorem g_916 : Cond.methodLink "ConeFormsLaw" 58 (⟨"ConeForms", "require", "(ZII)Z"⟩ : MethodName) ∈ gws := gmc4 196 (by decide +kernel) rfl
theorem g_917 : Cond.instanceMethod (⟨"ConeForms", "require", "(ZII)Z"⟩ : MethodName) ∈ gws := gmc4 197 (by decide +kernel) rfl
theorem g_918 : Cond.selects "ConeForms" (⟨"ConeForms", "require", "(ZII)Z"⟩ : MethodName) (⟨"ConeForms", "require", "(ZII)Z"⟩ : MethodName) ∈ gws := gmc4 198 (by decide +kernel) rfl
set_option maxRecDepth 100000 in
theorem g_919 : Cond.code (⟨"ConeForms", "require", "(ZII)Z"⟩ : MethodName) prog_1_method_23_code 8 (Option.some FieldType.boolean) ∈ gws := gmc4 199 rfl rfl
theorem g_1331 : Cond.methodLink "ConeFormsLaw" 62 (⟨"ConeFormsModel", "require", "(ZII)Z"⟩ : MethodName) ∈ gws := gmc6 131 (by decide +kernel) rfl
theorem g_1332 : Cond.instanceMethod (⟨"ConeFormsModel", "require", "(ZII)Z"⟩ : MethodName) ∈ gws := gmc6 132 (by decide +kernel) rfl
theorem g_1333 : Cond.selects "ConeFormsModel" (⟨"ConeFormsModel", "require", "(ZII)Z"⟩ : MethodName) (⟨"ConeFormsModel", "require", "(ZII)Z"⟩ : MethodName) ∈ gws := gmc6 133 (by decide +kernel) rfl
set_option maxRecDepth 100000 in
theorem g_1334 : Cond.code (⟨"ConeFormsModel", "require", "(ZII)Z"⟩ : MethodName) prog_12_method_37_code 4 (Option.some FieldType.boolean) ∈ gws := gmc6 134 rfl rfl
theorem g_942 : Cond.methodLink "ConeFormsLaw" 63 (⟨"ConeForms", "withdraw", "(I)Z"⟩ : MethodName) ∈ gws := gmc4 222 (by decide +kernel) rfl
theorem g_943 : Cond.instanceMethod (⟨"ConeForms", "withdraw", "(I)Z"⟩ : MethodName) ∈ gws := gmc4 223 (by decide +kernel) rfl
theorem g_944 : Cond.selects "ConeForms" (⟨"ConeForms", "withdraw", "(I)Z"⟩ : MethodName) (⟨"ConeForms", "withdraw", "(I)Z"⟩ : MethodName) ∈ gws := gmc4 224 (by decide +kernel) rfl
set_option maxRecDepth 100000 in
theorem g_945 : Cond.code (⟨"ConeForms", "withdraw", "(I)Z"⟩ : MethodName) prog_1_method_24_code 4 (Option.some FieldType.boolean) ∈ gws := gmc4 225 rfl rfl
theorem g_1335 : Cond.methodLink "ConeFormsLaw" 67 (⟨"ConeFormsModel", "withdraw", "(I)Z"⟩ : MethodName) ∈ gws := gmc6 135 (by decide +kernel) rfl
theorem g_1336 : Cond.instanceMethod (⟨"ConeFormsModel", "withdraw", "(I)Z"⟩ : MethodName) ∈ gws := gmc6 136 (by decide +kernel) rfl
theorem g_1337 : Cond.selects "ConeFormsModel" (⟨"ConeFormsModel", "withdraw", "(I)Z"⟩ : MethodName) (⟨"ConeFormsModel", "withdraw", "(I)Z"⟩ : MethodName) ∈ gws := gmc6 137 (by decide +kernel) rfl
set_option maxRecDepth 100000 in
theorem g_1338 : Cond.code (⟨"ConeFormsModel", "withdraw", "(I)Z"⟩ : MethodName) prog_12_method_38_code 3 (Option.some FieldType.boolean) ∈ gws := gmc6 138 rfl rfl
theorem g_946 : Cond.methodLink "ConeFormsLaw" 68 (⟨"ConeForms", "compile", "()I"⟩ : MethodName) ∈ gws := gmc4 226 (by decide +kernel) rfl
theorem g_947 : Cond.instanceMethod (⟨"ConeForms", "compile", "()I"⟩ : MethodName) ∈ gws := gmc4 227 (by decide +kernel) rfl
theorem g_948 : Cond.selects "ConeForms" (⟨"ConeForms", "compile", "()I"⟩ : MethodName) (⟨"ConeForms", "compile", "()I"⟩ : MethodName) ∈ gws := gmc4 228 (by decide +kernel) rfl
set_option maxRecDepth 100000 in
theorem g_949 : Cond.code (⟨"ConeForms", "compile", "()I"⟩ : MethodName) prog_1_method_27_code 4 (Option.some FieldType.int) ∈ gws := gmc4 229 rfl rfl
theorem g_1343 : Cond.methodLink "ConeFormsLaw" 71 (⟨"ConeFormsModel", "compile", "()I"⟩ : MethodName) ∈ gws := gmc6 143 (by decide +kernel) rfl
theorem g_1344 : Cond.instanceMethod (⟨"ConeFormsModel", "compile", "()I"⟩ : MethodName) ∈ gws := gmc6 144 (by decide +kernel) rfl
theorem g_1345 : Cond.selects "ConeFormsModel" (⟨"ConeFormsModel", "compile", "()I"⟩ : MethodName) (⟨"ConeFormsModel", "compile", "()I"⟩ : MethodName) ∈ gws := gmc6 145 (by decide +kernel) rfl
set_option maxRecDepth 100000 in
theorem g_1346 : Cond.code (⟨"ConeFormsModel", "compile", "()I"⟩ : MethodName) prog_12_method_42_code 3 (Option.some FieldType.int) ∈ gws := gmc6 146 rfl rfl
theorem g_967 : Cond.methodLink "ConeFormsLaw" 72 (⟨"ConeForms", "rows", "(I)I"⟩ : MethodName) ∈ gws := gmc5 7 (by decide +kernel) rfl
theorem g_968 : Cond.instanceMethod (⟨"ConeForms", "rows", "(I)I"⟩ : MethodName) ∈ gws := gmc5 8 (by decide +kernel) rfl
theorem g_969 : Cond.selects "ConeForms" (⟨"ConeForms", "rows", "(I)I"⟩ : MethodName) (⟨"ConeForms", "rows", "(I)I"⟩ : MethodName) ∈ gws := gmc5 9 (by decide +kernel) rfl
set_option maxRecDepth 100000 in
theorem g_970 : Cond.code (⟨"ConeForms", "rows", "(I)I"⟩ : MethodName) prog_1_method_33_code 2 (Option.some FieldType.int) ∈ gws := gmc5 10 rfl rfl
theorem g_1379 : Cond.methodLink "ConeFormsLaw" 75 (⟨"ConeFormsModel", "rows", "(I)I"⟩ : MethodName) ∈ gws := gmc6 179 (by decide +kernel) rfl
theorem g_1380 : Cond.instanceMethod (⟨"ConeFormsModel", "rows", "(I)I"⟩ : MethodName) ∈ gws := gmc6 180 (by decide +kernel) rfl
theorem g_1381 : Cond.selects "ConeFormsModel" (⟨"ConeFormsModel", "rows", "(I)I"⟩ : MethodName) (⟨"ConeFormsModel", "rows", "(I)I"⟩ : MethodName) ∈ gws := gmc6 181 (by decide +kernel) rfl
set_option maxRecDepth 100000 in
theorem g_1382 : Cond.code (⟨"ConeFormsModel", "rows", "(I)I"⟩ : MethodName) prog_12_method_53_code 2 (Option.some FieldType.int) ∈ gws := gmc6 182 rfl rfl
theorem g_971 : Cond.methodLink "ConeFormsLaw" 76 (⟨"ConeForms", "entry", "(II)I"⟩ : MethodName) ∈ gws := gmc5 11 (by decide +kernel) rfl
theorem g_972 : Cond.instanceMethod (⟨"ConeForms", "entry", "(II)I"⟩ : MethodName) ∈ gws := gmc5 12 (by decide +kernel) rfl
theorem g_973 : Cond.selects "ConeForms" (⟨"ConeForms", "entry", "(II)I"⟩ : MethodName) (⟨"ConeForms", "entry", "(II)I"⟩ : MethodName) ∈ gws := gmc5 13 (by decide +kernel) rfl
set_option maxRecDepth 100000 in
theorem g_974 : Cond.code (⟨"ConeForms", "entry", "(II)I"⟩ : MethodName) prog_1_method_34_code 4 (Option.some FieldType.int) ∈ gws := gmc5 14 rfl rfl
theorem g_1390 : Cond.methodLink "ConeFormsLaw" 80 (⟨"ConeFormsModel", "entry", "(II)I"⟩ : MethodName) ∈ gws := gmc6 190 (by decide +kernel) rfl
theorem g_1391 : Cond.instanceMethod (⟨"ConeFormsModel", "entry", "(II)I"⟩ : MethodName) ∈ gws := gmc6 191 (by decide +kernel) rfl
theorem g_1392 : Cond.selects "ConeFormsModel" (⟨"ConeFormsModel", "entry", "(II)I"⟩ : MethodName) (⟨"ConeFormsModel", "entry", "(II)I"⟩ : MethodName) ∈ gws := gmc6 192 (by decide +kernel) rfl
set_option maxRecDepth 100000 in
theorem g_1393 : Cond.code (⟨"ConeFormsModel", "entry", "(II)I"⟩ : MethodName) prog_12_method_57_code 7 (Option.some FieldType.int) ∈ gws := gmc6 193 rfl rfl
theorem g_979 : Cond.methodLink "ConeFormsLaw" 81 (⟨"ConeForms", "column", "(I)I"⟩ : MethodName) ∈ gws := gmc5 19 (by decide +kernel) rfl
theorem g_980 : Cond.instanceMethod (⟨"ConeForms", "column", "(I)I"⟩ : MethodName) ∈ gws := gmc5 20 (by decide +kernel) rfl
theorem g_981 : Cond.selects "ConeForms" (⟨"ConeForms", "column", "(I)I"⟩ : MethodName) (⟨"ConeForms", "column", "(I)I"⟩ : MethodName) ∈ gws := gmc5 21 (by decide +kernel) rfl
set_option maxRecDepth 100000 in
theorem g_982 : Cond.code (⟨"ConeForms", "column", "(I)I"⟩ : MethodName) prog_1_method_35_code 3 (Option.some FieldType.int) ∈ gws := gmc5 22 rfl rfl
theorem g_1371 : Cond.methodLink "ConeFormsLaw" 84 (⟨"ConeFormsModel", "column", "(I)I"⟩ : MethodName) ∈ gws := gmc6 171 (by decide +kernel) rfl
theorem g_1372 : Cond.instanceMethod (⟨"ConeFormsModel", "column", "(I)I"⟩ : MethodName) ∈ gws := gmc6 172 (by decide +kernel) rfl
theorem g_1373 : Cond.selects "ConeFormsModel" (⟨"ConeFormsModel", "column", "(I)I"⟩ : MethodName) (⟨"ConeFormsModel", "column", "(I)I"⟩ : MethodName) ∈ gws := gmc6 173 (by decide +kernel) rfl
set_option maxRecDepth 100000 in
theorem g_1374 : Cond.code (⟨"ConeFormsModel", "column", "(I)I"⟩ : MethodName) prog_12_method_48_code 2 (Option.some FieldType.int) ∈ gws := gmc6 174 rfl rfl
theorem g_983 : Cond.methodLink "ConeFormsLaw" 85 (⟨"ConeForms", "lift", "()Z"⟩ : MethodName) ∈ gws := gmc5 23 (by decide +kernel) rfl
theorem g_984 : Cond.instanceMethod (⟨"ConeForms", "lift", "()Z"⟩ : MethodName) ∈ gws := gmc5 24 (by decide +kernel) rfl
theorem g_985 : Cond.selects "ConeForms" (⟨"ConeForms", "lift", "()Z"⟩ : MethodName) (⟨"ConeForms", "lift", "()Z"⟩ : MethodName) ∈ gws := gmc5 25 (by decide +kernel) rfl
set_option maxRecDepth 100000 in
theorem g_986 : Cond.code (⟨"ConeForms", "lift", "()Z"⟩ : MethodName) prog_1_method_36_code 3 (Option.some FieldType.boolean) ∈ gws := gmc5 26 rfl rfl
theorem g_1420 : Cond.methodLink "ConeFormsLaw" 89 (⟨"ConeFormsModel", "lift", "()Z"⟩ : MethodName) ∈ gws := gmc6 220 (by decide +kernel) rfl
theorem g_1421 : Cond.instanceMethod (⟨"ConeFormsModel", "lift", "()Z"⟩ : MethodName) ∈ gws := gmc6 221 (by decide +kernel) rfl
theorem g_1422 : Cond.selects "ConeFormsModel" (⟨"ConeFormsModel", "lift", "()Z"⟩ : MethodName) (⟨"ConeFormsModel", "lift", "()Z"⟩ : MethodName) ∈ gws := gmc6 222 (by decide +kernel) rfl
set_option maxRecDepth 100000 in
theorem g_1423 : Cond.code (⟨"ConeFormsModel", "lift", "()Z"⟩ : MethodName) prog_12_method_59_code 2 (Option.some FieldType.boolean) ∈ gws := gmc6 223 rfl rfl
theorem g_1033 : Cond.methodLink "ConeFormsLaw" 90 (⟨"ConeForms", "fits", "()Z"⟩ : MethodName) ∈ gws := gmc5 73 (by decide +kernel) rfl
theorem g_1034 : Cond.instanceMethod (⟨"ConeForms", "fits", "()Z"⟩ : MethodName) ∈ gws := gmc5 74 (by decide +kernel) rfl
theorem g_1035 : Cond.selects "ConeForms" (⟨"ConeForms", "fits", "()Z"⟩ : MethodName) (⟨"ConeForms", "fits", "()Z"⟩ : MethodName) ∈ gws := gmc5 75 (by decide +kernel) rfl
set_option maxRecDepth 100000 in
theorem g_1036 : Cond.code (⟨"ConeForms", "fits", "()Z"⟩ : MethodName) prog_1_method_38_code 10 (Option.some FieldType.boolean) ∈ gws := gmc5 76 rfl rfl
theorem g_1424 : Cond.methodLink "ConeFormsLaw" 93 (⟨"ConeFormsModel", "fits", "()Z"⟩ : MethodName) ∈ gws := gmc6 224 (by decide +kernel) rfl
theorem g_1425 : Cond.instanceMethod (⟨"ConeFormsModel", "fits", "()Z"⟩ : MethodName) ∈ gws := gmc6 225 (by decide +kernel) rfl
theorem g_1426 : Cond.selects "ConeFormsModel" (⟨"ConeFormsModel", "fits", "()Z"⟩ : MethodName) (⟨"ConeFormsModel", "fits", "()Z"⟩ : MethodName) ∈ gws := gmc6 226 (by decide +kernel) rfl
set_option maxRecDepth 100000 in
theorem g_1427 : Cond.code (⟨"ConeFormsModel", "fits", "()Z"⟩ : MethodName) prog_12_method_61_code 11 (Option.some FieldType.boolean) ∈ gws := gmc6 227 rfl rfl
theorem g_1062 : Cond.methodLink "ConeFormsLaw" 94 (⟨"ConeForms", "cost", "()J"⟩ : MethodName) ∈ gws := gmc5 102 (by decide +kernel) rfl
theorem g_1063 : Cond.instanceMethod (⟨"ConeForms", "cost", "()J"⟩ : MethodName) ∈ gws := gmc5 103 (by decide +kernel) rfl
theorem g_1064 : Cond.selects "ConeForms" (⟨"ConeForms", "cost", "()J"⟩ : MethodName) (⟨"ConeForms", "cost", "()J"⟩ : MethodName) ∈ gws := gmc5 104 (by decide +kernel) rfl
set_option maxRecDepth 100000 in
theorem g_1065 : Cond.code (⟨"ConeForms", "cost", "()J"⟩ : MethodName) prog_1_method_39_code 1 (Option.some FieldType.long) ∈ gws := gmc5 105 rfl rfl
theorem g_1431 : Cond.methodLink "ConeFormsLaw" 98 (⟨"ConeFormsModel", "cost", "()J"⟩ : MethodName) ∈ gws := gmc6 231 (by decide +kernel) rfl
theorem g_1432 : Cond.instanceMethod (⟨"ConeFormsModel", "cost", "()J"⟩ : MethodName) ∈ gws := gmc6 232 (by decide +kernel) rfl
theorem g_1433 : Cond.selects "ConeFormsModel" (⟨"ConeFormsModel", "cost", "()J"⟩ : MethodName) (⟨"ConeFormsModel", "cost", "()J"⟩ : MethodName) ∈ gws := gmc6 233 (by decide +kernel) rfl
set_option maxRecDepth 100000 in
theorem g_1434 : Cond.code (⟨"ConeFormsModel", "cost", "()J"⟩ : MethodName) prog_12_method_62_code 1 (Option.some FieldType.long) ∈ gws := gmc6 234 rfl rfl
theorem g_1066 : Cond.methodLink "ConeFormsLaw" 99 (⟨"ConeForms", "feasible", "()Z"⟩ : MethodName) ∈ gws := gmc5 106 (by decide +kernel) rfl
theorem g_1067 : Cond.instanceMethod (⟨"ConeForms", "feasible", "()Z"⟩ : MethodName) ∈ gws := gmc5 107 (by decide +kernel) rfl
theorem g_1068 : Cond.selects "ConeForms" (⟨"ConeForms", "feasible", "()Z"⟩ : MethodName) (⟨"ConeForms", "feasible", "()Z"⟩ : MethodName) ∈ gws := gmc5 108 (by decide +kernel) rfl
set_option maxRecDepth 100000 in
theorem g_1069 : Cond.code (⟨"ConeForms", "feasible", "()Z"⟩ : MethodName) prog_1_method_40_code 3 (Option.some FieldType.boolean) ∈ gws := gmc5 109 rfl rfl
theorem g_1339 : Cond.methodLink "ConeFormsLaw" 102 (⟨"ConeFormsModel", "feasible", "()Z"⟩ : MethodName) ∈ gws := gmc6 139 (by decide +kernel) rfl
theorem g_1340 : Cond.instanceMethod (⟨"ConeFormsModel", "feasible", "()Z"⟩ : MethodName) ∈ gws := gmc6 140 (by decide +kernel) rfl
theorem g_1341 : Cond.selects "ConeFormsModel" (⟨"ConeFormsModel", "feasible", "()Z"⟩ : MethodName) (⟨"ConeFormsModel", "feasible", "()Z"⟩ : MethodName) ∈ gws := gmc6 141 (by decide +kernel) rfl
set_option maxRecDepth 100000 in
theorem g_1342 : Cond.code (⟨"ConeFormsModel", "feasible", "()Z"⟩ : MethodName) prog_12_method_39_code 5 (Option.some FieldType.boolean) ∈ gws := gmc6 142 rfl rfl
